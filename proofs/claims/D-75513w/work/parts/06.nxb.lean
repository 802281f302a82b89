/-! StringTableau -/
set_option maxRecDepth 100000
def RX1 : String := "StringTableau"
def TX1 : u_T := fun k => match k with
  | 0 => ("StringTableau", "state", "LStringTableau$State;", false)
  | 1 => ("StringTableau", "program", "Ljava/util/List;", false)
  | 2 => ("StringTableau", "history", "Ljava/util/ArrayDeque;", true)
  | 3 => ("StringTableau", "slots", "[LStringTableau$Tableau;", true)
  | 4 => ("StringTableau", "buffer", "[B", true)
  | 5 => ("StringTableau", "length", "I", false)
  | 6 => ("StringTableau", "errorCode", "I", false)
  | 7 => ("StringTableau", "errorOffset", "I", false)
  | _ => ("StringTableau", "output", "Ljava/lang/StringBuilder;", true)
def tyX1 : Nat → FieldType := fun k => match k with
  | 0 => .object "StringTableau$State"
  | 1 => .object "java/util/List"
  | 2 => .object "java/util/ArrayDeque"
  | 3 => .array (.object "StringTableau$Tableau")
  | 4 => .array .byte
  | 5 => .int
  | 6 => .int
  | 7 => .int
  | _ => .object "java/lang/StringBuilder"
abbrev wsX10 : List Cond := u_ws RX1 TX1 9
theorem nmX1 : ∀ a, a < 9 → ∀ b, b < 9 → a ≠ b → (TX1 a).2.1 ≠ (TX1 b).2.1 := by decide +kernel
theorem tyX1_ok : ∀ k, k < 9 → parseFieldDescriptor (TX1 k).2.2.1 = some (tyX1 k) := by decide +kernel
abbrev cX1_init : ByteArray := prog_1_method_1_code
def yX1_init : MethodName := ⟨RX1, "<init>", "()V"⟩
def dkwX1_init_3 : List UInt8 := [183, 0, 48, 181, 0, 49, 177]
abbrev dktX1_init_3 : List UInt8 := dkwX1_init_3 ++ []
def dkwX1_init_2 : List UInt8 := [181, 0, 34, 42, 17, 2, 188, 188, 8, 181, 0, 38, 42, 2, 181, 0, 42, 42, 187, 0, 46, 89]
abbrev dktX1_init_2 : List UInt8 := dkwX1_init_2 ++ dktX1_init_3
def dkwX1_init_1 : List UInt8 := [183, 0, 20, 181, 0, 21, 42, 187, 0, 25, 89, 183, 0, 27, 181, 0, 28, 42, 5, 189, 0, 32]
abbrev dktX1_init_1 : List UInt8 := dkwX1_init_1 ++ dktX1_init_2
def dkwX1_init_0 : List UInt8 := [42, 183, 0, 1, 42, 187, 0, 7, 89, 4, 3, 183, 0, 9, 181, 0, 12, 42, 187, 0, 18, 89]
abbrev dktX1_init_0 : List UInt8 := dkwX1_init_0 ++ dktX1_init_1
theorem dksX1_init_0 : cX1_init.data.toList.drop 0 = dktX1_init_0 := by decide +kernel
theorem dksX1_init_1 : cX1_init.data.toList.drop 22 = dktX1_init_1 := dk_seg dksX1_init_0 22 rfl rfl
theorem dksX1_init_2 : cX1_init.data.toList.drop 44 = dktX1_init_2 := dk_seg dksX1_init_1 22 rfl rfl
theorem dksX1_init_3 : cX1_init.data.toList.drop 66 = dktX1_init_3 := dk_seg dksX1_init_2 22 rfl rfl
theorem dX1_init_0 : decode cX1_init 0 = .ok (.aload_n 0, 1) := dk_42 (dk_at dksX1_init_0 0 rfl rfl)
theorem dX1_init_1 : decode cX1_init 1 = .ok (.invokespecial 1, 3) := dk_183 0 1 (dk_at dksX1_init_0 1 rfl rfl)
theorem dX1_init_4 : decode cX1_init 4 = .ok (.aload_n 0, 1) := dk_42 (dk_at dksX1_init_0 4 rfl rfl)
theorem dX1_init_5 : decode cX1_init 5 = .ok (.new 7, 3) := dk_187 0 7 (dk_at dksX1_init_0 5 rfl rfl)
theorem dX1_init_8 : decode cX1_init 8 = .ok (.dup, 1) := dk_89 (dk_at dksX1_init_0 8 rfl rfl)
theorem dX1_init_9 : decode cX1_init 9 = .ok (.iconst 1, 1) := dk_4 (dk_at dksX1_init_0 9 rfl rfl)
theorem dX1_init_10 : decode cX1_init 10 = .ok (.iconst 0, 1) := dk_3 (dk_at dksX1_init_0 10 rfl rfl)
theorem dX1_init_11 : decode cX1_init 11 = .ok (.invokespecial 9, 3) := dk_183 0 9 (dk_at dksX1_init_0 11 rfl rfl)
theorem dX1_init_14 : decode cX1_init 14 = .ok (.putfield 12, 3) := dk_181 0 12 (dk_at dksX1_init_0 14 rfl rfl)
theorem dX1_init_17 : decode cX1_init 17 = .ok (.aload_n 0, 1) := dk_42 (dk_at dksX1_init_0 17 rfl rfl)
theorem dX1_init_18 : decode cX1_init 18 = .ok (.new 18, 3) := dk_187 0 18 (dk_at dksX1_init_0 18 rfl rfl)
theorem dX1_init_21 : decode cX1_init 21 = .ok (.dup, 1) := dk_89 (dk_at dksX1_init_0 21 rfl rfl)
theorem dX1_init_22 : decode cX1_init 22 = .ok (.invokespecial 20, 3) := dk_183 0 20 (dk_at dksX1_init_1 0 rfl rfl)
theorem dX1_init_25 : decode cX1_init 25 = .ok (.putfield 21, 3) := dk_181 0 21 (dk_at dksX1_init_1 3 rfl rfl)
theorem dX1_init_28 : decode cX1_init 28 = .ok (.aload_n 0, 1) := dk_42 (dk_at dksX1_init_1 6 rfl rfl)
theorem dX1_init_29 : decode cX1_init 29 = .ok (.new 25, 3) := dk_187 0 25 (dk_at dksX1_init_1 7 rfl rfl)
theorem dX1_init_32 : decode cX1_init 32 = .ok (.dup, 1) := dk_89 (dk_at dksX1_init_1 10 rfl rfl)
theorem dX1_init_33 : decode cX1_init 33 = .ok (.invokespecial 27, 3) := dk_183 0 27 (dk_at dksX1_init_1 11 rfl rfl)
theorem dX1_init_36 : decode cX1_init 36 = .ok (.putfield 28, 3) := dk_181 0 28 (dk_at dksX1_init_1 14 rfl rfl)
theorem dX1_init_39 : decode cX1_init 39 = .ok (.aload_n 0, 1) := dk_42 (dk_at dksX1_init_1 17 rfl rfl)
theorem dX1_init_40 : decode cX1_init 40 = .ok (.iconst 2, 1) := dk_5 (dk_at dksX1_init_1 18 rfl rfl)
theorem dX1_init_41 : decode cX1_init 41 = .ok (.anewarray 32, 3) := dk_189 0 32 (dk_at dksX1_init_1 19 rfl rfl)
theorem dX1_init_44 : decode cX1_init 44 = .ok (.putfield 34, 3) := dk_181 0 34 (dk_at dksX1_init_2 0 rfl rfl)
theorem dX1_init_47 : decode cX1_init 47 = .ok (.aload_n 0, 1) := dk_42 (dk_at dksX1_init_2 3 rfl rfl)
theorem dX1_init_48 : decode cX1_init 48 = .ok (.sipush 700, 3) := dk_17 2 188 (dk_at dksX1_init_2 4 rfl rfl)
theorem dX1_init_51 : decode cX1_init 51 = .ok (.newarray .byte, 2) := dk_188_8 (dk_at dksX1_init_2 7 rfl rfl)
theorem dX1_init_53 : decode cX1_init 53 = .ok (.putfield 38, 3) := dk_181 0 38 (dk_at dksX1_init_2 9 rfl rfl)
theorem dX1_init_56 : decode cX1_init 56 = .ok (.aload_n 0, 1) := dk_42 (dk_at dksX1_init_2 12 rfl rfl)
theorem dX1_init_57 : decode cX1_init 57 = .ok (.iconst (-1), 1) := dk_2 (dk_at dksX1_init_2 13 rfl rfl)
theorem dX1_init_58 : decode cX1_init 58 = .ok (.putfield 42, 3) := dk_181 0 42 (dk_at dksX1_init_2 14 rfl rfl)
theorem dX1_init_61 : decode cX1_init 61 = .ok (.aload_n 0, 1) := dk_42 (dk_at dksX1_init_2 17 rfl rfl)
theorem dX1_init_62 : decode cX1_init 62 = .ok (.new 46, 3) := dk_187 0 46 (dk_at dksX1_init_2 18 rfl rfl)
theorem dX1_init_65 : decode cX1_init 65 = .ok (.dup, 1) := dk_89 (dk_at dksX1_init_2 21 rfl rfl)
theorem dX1_init_66 : decode cX1_init 66 = .ok (.invokespecial 48, 3) := dk_183 0 48 (dk_at dksX1_init_3 0 rfl rfl)
theorem dX1_init_69 : decode cX1_init 69 = .ok (.putfield 49, 3) := dk_181 0 49 (dk_at dksX1_init_3 3 rfl rfl)
theorem dX1_init_72 : decode cX1_init 72 = .ok (.return_, 1) := dk_177 (dk_at dksX1_init_3 6 rfl rfl)
abbrev cX1_feed : ByteArray := prog_1_method_17_code
def yX1_feed : MethodName := ⟨RX1, "feed", "(IIIII)I"⟩
def dkwX1_feed_2 : List UInt8 := [172]
abbrev dktX1_feed_2 : List UInt8 := dkwX1_feed_2 ++ []
def dkwX1_feed_1 : List UInt8 := [182, 0, 122, 42, 29, 182, 0, 122, 42, 21, 4, 182, 0, 122, 42, 21, 5, 182, 0, 122, 42, 180, 0, 119]
abbrev dktX1_feed_1 : List UInt8 := dkwX1_feed_1 ++ dktX1_feed_2
def dkwX1_feed_0 : List UInt8 := [42, 180, 0, 119, 16, 20, 96, 17, 2, 188, 164, 0, 5, 2, 172, 42, 27, 182, 0, 122, 42, 28]
abbrev dktX1_feed_0 : List UInt8 := dkwX1_feed_0 ++ dktX1_feed_1
theorem dksX1_feed_0 : cX1_feed.data.toList.drop 0 = dktX1_feed_0 := by decide +kernel
theorem dksX1_feed_1 : cX1_feed.data.toList.drop 22 = dktX1_feed_1 := dk_seg dksX1_feed_0 22 rfl rfl
theorem dksX1_feed_2 : cX1_feed.data.toList.drop 46 = dktX1_feed_2 := dk_seg dksX1_feed_1 24 rfl rfl
theorem dX1_feed_0 : decode cX1_feed 0 = .ok (.aload_n 0, 1) := dk_42 (dk_at dksX1_feed_0 0 rfl rfl)
theorem dX1_feed_1 : decode cX1_feed 1 = .ok (.getfield 119, 3) := dk_180 0 119 (dk_at dksX1_feed_0 1 rfl rfl)
theorem dX1_feed_4 : decode cX1_feed 4 = .ok (.bipush 20, 2) := dk_16 20 (dk_at dksX1_feed_0 4 rfl rfl)
theorem dX1_feed_6 : decode cX1_feed 6 = .ok (.iadd, 1) := dk_96 (dk_at dksX1_feed_0 6 rfl rfl)
theorem dX1_feed_7 : decode cX1_feed 7 = .ok (.sipush 700, 3) := dk_17 2 188 (dk_at dksX1_feed_0 7 rfl rfl)
theorem dX1_feed_10 : decode cX1_feed 10 = .ok (.if_icmp .le 5, 3) := dk_164 0 5 (dk_at dksX1_feed_0 10 rfl rfl)
theorem dX1_feed_13 : decode cX1_feed 13 = .ok (.iconst (-1), 1) := dk_2 (dk_at dksX1_feed_0 13 rfl rfl)
theorem dX1_feed_14 : decode cX1_feed 14 = .ok (.ireturn, 1) := dk_172 (dk_at dksX1_feed_0 14 rfl rfl)
theorem dX1_feed_15 : decode cX1_feed 15 = .ok (.aload_n 0, 1) := dk_42 (dk_at dksX1_feed_0 15 rfl rfl)
theorem dX1_feed_16 : decode cX1_feed 16 = .ok (.iload_n 1, 1) := dk_27 (dk_at dksX1_feed_0 16 rfl rfl)
theorem dX1_feed_17 : decode cX1_feed 17 = .ok (.invokevirtual 122, 3) := dk_182 0 122 (dk_at dksX1_feed_0 17 rfl rfl)
theorem dX1_feed_20 : decode cX1_feed 20 = .ok (.aload_n 0, 1) := dk_42 (dk_at dksX1_feed_0 20 rfl rfl)
theorem dX1_feed_21 : decode cX1_feed 21 = .ok (.iload_n 2, 1) := dk_28 (dk_at dksX1_feed_0 21 rfl rfl)
theorem dX1_feed_22 : decode cX1_feed 22 = .ok (.invokevirtual 122, 3) := dk_182 0 122 (dk_at dksX1_feed_1 0 rfl rfl)
theorem dX1_feed_25 : decode cX1_feed 25 = .ok (.aload_n 0, 1) := dk_42 (dk_at dksX1_feed_1 3 rfl rfl)
theorem dX1_feed_26 : decode cX1_feed 26 = .ok (.iload_n 3, 1) := dk_29 (dk_at dksX1_feed_1 4 rfl rfl)
theorem dX1_feed_27 : decode cX1_feed 27 = .ok (.invokevirtual 122, 3) := dk_182 0 122 (dk_at dksX1_feed_1 5 rfl rfl)
theorem dX1_feed_30 : decode cX1_feed 30 = .ok (.aload_n 0, 1) := dk_42 (dk_at dksX1_feed_1 8 rfl rfl)
theorem dX1_feed_31 : decode cX1_feed 31 = .ok (.iload 4, 2) := dk_21 4 (dk_at dksX1_feed_1 9 rfl rfl)
theorem dX1_feed_33 : decode cX1_feed 33 = .ok (.invokevirtual 122, 3) := dk_182 0 122 (dk_at dksX1_feed_1 11 rfl rfl)
theorem dX1_feed_36 : decode cX1_feed 36 = .ok (.aload_n 0, 1) := dk_42 (dk_at dksX1_feed_1 14 rfl rfl)
theorem dX1_feed_37 : decode cX1_feed 37 = .ok (.iload 5, 2) := dk_21 5 (dk_at dksX1_feed_1 15 rfl rfl)
theorem dX1_feed_39 : decode cX1_feed 39 = .ok (.invokevirtual 122, 3) := dk_182 0 122 (dk_at dksX1_feed_1 17 rfl rfl)
theorem dX1_feed_42 : decode cX1_feed 42 = .ok (.aload_n 0, 1) := dk_42 (dk_at dksX1_feed_1 20 rfl rfl)
theorem dX1_feed_43 : decode cX1_feed 43 = .ok (.getfield 119, 3) := dk_180 0 119 (dk_at dksX1_feed_1 21 rfl rfl)
theorem dX1_feed_46 : decode cX1_feed 46 = .ok (.ireturn, 1) := dk_172 (dk_at dksX1_feed_2 0 rfl rfl)
abbrev cX1_append : ByteArray := prog_1_method_16_code
def yX1_append : MethodName := ⟨RX1, "append", "(I)V"⟩
def dkwX1_append_1 : List UInt8 := [180, 0, 119, 4, 96, 181, 0, 119, 132, 2, 248, 167, 255, 226, 177]
abbrev dktX1_append_1 : List UInt8 := dkwX1_append_1 ++ []
def dkwX1_append_0 : List UInt8 := [16, 24, 61, 28, 155, 0, 32, 42, 180, 0, 38, 42, 180, 0, 119, 27, 28, 124, 145, 84, 42, 89]
abbrev dktX1_append_0 : List UInt8 := dkwX1_append_0 ++ dktX1_append_1
theorem dksX1_append_0 : cX1_append.data.toList.drop 0 = dktX1_append_0 := by decide +kernel
theorem dksX1_append_1 : cX1_append.data.toList.drop 22 = dktX1_append_1 := dk_seg dksX1_append_0 22 rfl rfl
theorem dX1_append_0 : decode cX1_append 0 = .ok (.bipush 24, 2) := dk_16 24 (dk_at dksX1_append_0 0 rfl rfl)
theorem dX1_append_2 : decode cX1_append 2 = .ok (.istore_n 2, 1) := dk_61 (dk_at dksX1_append_0 2 rfl rfl)
theorem dX1_append_3 : decode cX1_append 3 = .ok (.iload_n 2, 1) := dk_28 (dk_at dksX1_append_0 3 rfl rfl)
theorem dX1_append_4 : decode cX1_append 4 = .ok (.ifCond .lt 32, 3) := dk_155 0 32 (dk_at dksX1_append_0 4 rfl rfl)
theorem dX1_append_7 : decode cX1_append 7 = .ok (.aload_n 0, 1) := dk_42 (dk_at dksX1_append_0 7 rfl rfl)
theorem dX1_append_8 : decode cX1_append 8 = .ok (.getfield 38, 3) := dk_180 0 38 (dk_at dksX1_append_0 8 rfl rfl)
theorem dX1_append_11 : decode cX1_append 11 = .ok (.aload_n 0, 1) := dk_42 (dk_at dksX1_append_0 11 rfl rfl)
theorem dX1_append_12 : decode cX1_append 12 = .ok (.getfield 119, 3) := dk_180 0 119 (dk_at dksX1_append_0 12 rfl rfl)
theorem dX1_append_15 : decode cX1_append 15 = .ok (.iload_n 1, 1) := dk_27 (dk_at dksX1_append_0 15 rfl rfl)
theorem dX1_append_16 : decode cX1_append 16 = .ok (.iload_n 2, 1) := dk_28 (dk_at dksX1_append_0 16 rfl rfl)
theorem dX1_append_17 : decode cX1_append 17 = .ok (.iushr, 1) := dk_124 (dk_at dksX1_append_0 17 rfl rfl)
theorem dX1_append_18 : decode cX1_append 18 = .ok (.i2b, 1) := dk_145 (dk_at dksX1_append_0 18 rfl rfl)
theorem dX1_append_19 : decode cX1_append 19 = .ok (.bastore, 1) := dk_84 (dk_at dksX1_append_0 19 rfl rfl)
theorem dX1_append_20 : decode cX1_append 20 = .ok (.aload_n 0, 1) := dk_42 (dk_at dksX1_append_0 20 rfl rfl)
theorem dX1_append_21 : decode cX1_append 21 = .ok (.dup, 1) := dk_89 (dk_at dksX1_append_0 21 rfl rfl)
theorem dX1_append_22 : decode cX1_append 22 = .ok (.getfield 119, 3) := dk_180 0 119 (dk_at dksX1_append_1 0 rfl rfl)
theorem dX1_append_25 : decode cX1_append 25 = .ok (.iconst 1, 1) := dk_4 (dk_at dksX1_append_1 3 rfl rfl)
theorem dX1_append_26 : decode cX1_append 26 = .ok (.iadd, 1) := dk_96 (dk_at dksX1_append_1 4 rfl rfl)
theorem dX1_append_27 : decode cX1_append 27 = .ok (.putfield 119, 3) := dk_181 0 119 (dk_at dksX1_append_1 5 rfl rfl)
theorem dX1_append_30 : decode cX1_append 30 = .ok (.iinc 2 (-8), 3) := dk_132 2 248 (dk_at dksX1_append_1 8 rfl rfl)
theorem dX1_append_33 : decode cX1_append 33 = .ok (.goto (-30), 3) := dk_167 255 226 (dk_at dksX1_append_1 11 rfl rfl)
theorem dX1_append_36 : decode cX1_append 36 = .ok (.return_, 1) := dk_177 (dk_at dksX1_append_1 14 rfl rfl)
abbrev cX1_truncate : ByteArray := prog_1_method_18_code
def yX1_truncate : MethodName := ⟨RX1, "truncate", "(I)Z"⟩
def dkwX1_truncate_0 : List UInt8 := [27, 3, 42, 180, 0, 119, 184, 0, 88, 154, 0, 5, 3, 172, 42, 27, 181, 0, 119, 4, 172]
abbrev dktX1_truncate_0 : List UInt8 := dkwX1_truncate_0 ++ []
theorem dksX1_truncate_0 : cX1_truncate.data.toList.drop 0 = dktX1_truncate_0 := by decide +kernel
theorem dX1_truncate_0 : decode cX1_truncate 0 = .ok (.iload_n 1, 1) := dk_27 (dk_at dksX1_truncate_0 0 rfl rfl)
theorem dX1_truncate_1 : decode cX1_truncate 1 = .ok (.iconst 0, 1) := dk_3 (dk_at dksX1_truncate_0 1 rfl rfl)
theorem dX1_truncate_2 : decode cX1_truncate 2 = .ok (.aload_n 0, 1) := dk_42 (dk_at dksX1_truncate_0 2 rfl rfl)
theorem dX1_truncate_3 : decode cX1_truncate 3 = .ok (.getfield 119, 3) := dk_180 0 119 (dk_at dksX1_truncate_0 3 rfl rfl)
theorem dX1_truncate_6 : decode cX1_truncate 6 = .ok (.invokestatic 88, 3) := dk_184 0 88 (dk_at dksX1_truncate_0 6 rfl rfl)
theorem dX1_truncate_9 : decode cX1_truncate 9 = .ok (.ifCond .ne 5, 3) := dk_154 0 5 (dk_at dksX1_truncate_0 9 rfl rfl)
theorem dX1_truncate_12 : decode cX1_truncate 12 = .ok (.iconst 0, 1) := dk_3 (dk_at dksX1_truncate_0 12 rfl rfl)
theorem dX1_truncate_13 : decode cX1_truncate 13 = .ok (.ireturn, 1) := dk_172 (dk_at dksX1_truncate_0 13 rfl rfl)
theorem dX1_truncate_14 : decode cX1_truncate 14 = .ok (.aload_n 0, 1) := dk_42 (dk_at dksX1_truncate_0 14 rfl rfl)
theorem dX1_truncate_15 : decode cX1_truncate 15 = .ok (.iload_n 1, 1) := dk_27 (dk_at dksX1_truncate_0 15 rfl rfl)
theorem dX1_truncate_16 : decode cX1_truncate 16 = .ok (.putfield 119, 3) := dk_181 0 119 (dk_at dksX1_truncate_0 16 rfl rfl)
theorem dX1_truncate_19 : decode cX1_truncate 19 = .ok (.iconst 1, 1) := dk_4 (dk_at dksX1_truncate_0 19 rfl rfl)
theorem dX1_truncate_20 : decode cX1_truncate 20 = .ok (.ireturn, 1) := dk_172 (dk_at dksX1_truncate_0 20 rfl rfl)
abbrev cX1_inRange : ByteArray := prog_1_method_2_code
def yX1_inRange : MethodName := ⟨RX1, "inRange", "(III)Z"⟩
def dkwX1_inRange_0 : List UInt8 := [26, 27, 161, 0, 12, 26, 28, 163, 0, 7, 4, 167, 0, 4, 3, 172]
abbrev dktX1_inRange_0 : List UInt8 := dkwX1_inRange_0 ++ []
theorem dksX1_inRange_0 : cX1_inRange.data.toList.drop 0 = dktX1_inRange_0 := by decide +kernel
theorem dX1_inRange_0 : decode cX1_inRange 0 = .ok (.iload_n 0, 1) := dk_26 (dk_at dksX1_inRange_0 0 rfl rfl)
theorem dX1_inRange_1 : decode cX1_inRange 1 = .ok (.iload_n 1, 1) := dk_27 (dk_at dksX1_inRange_0 1 rfl rfl)
theorem dX1_inRange_2 : decode cX1_inRange 2 = .ok (.if_icmp .lt 12, 3) := dk_161 0 12 (dk_at dksX1_inRange_0 2 rfl rfl)
theorem dX1_inRange_5 : decode cX1_inRange 5 = .ok (.iload_n 0, 1) := dk_26 (dk_at dksX1_inRange_0 5 rfl rfl)
theorem dX1_inRange_6 : decode cX1_inRange 6 = .ok (.iload_n 2, 1) := dk_28 (dk_at dksX1_inRange_0 6 rfl rfl)
theorem dX1_inRange_7 : decode cX1_inRange 7 = .ok (.if_icmp .gt 7, 3) := dk_163 0 7 (dk_at dksX1_inRange_0 7 rfl rfl)
theorem dX1_inRange_10 : decode cX1_inRange 10 = .ok (.iconst 1, 1) := dk_4 (dk_at dksX1_inRange_0 10 rfl rfl)
theorem dX1_inRange_11 : decode cX1_inRange 11 = .ok (.goto 4, 3) := dk_167 0 4 (dk_at dksX1_inRange_0 11 rfl rfl)
theorem dX1_inRange_14 : decode cX1_inRange 14 = .ok (.iconst 0, 1) := dk_3 (dk_at dksX1_inRange_0 14 rfl rfl)
theorem dX1_inRange_15 : decode cX1_inRange 15 = .ok (.ireturn, 1) := dk_172 (dk_at dksX1_inRange_0 15 rfl rfl)
abbrev cX1_parse : ByteArray := prog_1_method_19_code
def yX1_parse : MethodName := ⟨RX1, "parse", "()I"⟩
def dkwX1_parse_4 : List UInt8 := [42, 3, 181, 0, 119, 45, 191]
abbrev dktX1_parse_4 : List UInt8 := dkwX1_parse_4 ++ []
def dkwX1_parse_3 : List UInt8 := [180, 0, 154, 181, 0, 126, 42, 43, 180, 0, 157, 181, 0, 42, 2, 61, 42, 3, 181, 0, 119, 28, 172, 78]
abbrev dktX1_parse_3 : List UInt8 := dkwX1_parse_3 ++ dktX1_parse_4
def dkwX1_parse_2 : List UInt8 := [184, 0, 143, 42, 180, 0, 21, 185, 0, 149, 1, 0, 61, 42, 3, 181, 0, 119, 28, 172, 76, 42, 43]
abbrev dktX1_parse_2 : List UInt8 := dkwX1_parse_2 ++ dktX1_parse_3
def dkwX1_parse_1 : List UInt8 := [181, 0, 12, 42, 43, 180, 0, 137, 181, 0, 21, 42, 180, 0, 28, 182, 0, 140, 42, 180, 0, 34, 1]
abbrev dktX1_parse_1 : List UInt8 := dkwX1_parse_1 ++ dktX1_parse_2
def dkwX1_parse_0 : List UInt8 := [42, 3, 181, 0, 126, 42, 2, 181, 0, 42, 187, 0, 129, 89, 42, 183, 0, 131, 76, 42, 43, 182, 0, 134]
abbrev dktX1_parse_0 : List UInt8 := dkwX1_parse_0 ++ dktX1_parse_1
theorem dksX1_parse_0 : cX1_parse.data.toList.drop 0 = dktX1_parse_0 := by decide +kernel
theorem dksX1_parse_1 : cX1_parse.data.toList.drop 24 = dktX1_parse_1 := dk_seg dksX1_parse_0 24 rfl rfl
theorem dksX1_parse_2 : cX1_parse.data.toList.drop 47 = dktX1_parse_2 := dk_seg dksX1_parse_1 23 rfl rfl
theorem dksX1_parse_3 : cX1_parse.data.toList.drop 70 = dktX1_parse_3 := dk_seg dksX1_parse_2 23 rfl rfl
theorem dksX1_parse_4 : cX1_parse.data.toList.drop 94 = dktX1_parse_4 := dk_seg dksX1_parse_3 24 rfl rfl
theorem dX1_parse_0 : decode cX1_parse 0 = .ok (.aload_n 0, 1) := dk_42 (dk_at dksX1_parse_0 0 rfl rfl)
theorem dX1_parse_1 : decode cX1_parse 1 = .ok (.iconst 0, 1) := dk_3 (dk_at dksX1_parse_0 1 rfl rfl)
theorem dX1_parse_2 : decode cX1_parse 2 = .ok (.putfield 126, 3) := dk_181 0 126 (dk_at dksX1_parse_0 2 rfl rfl)
theorem dX1_parse_5 : decode cX1_parse 5 = .ok (.aload_n 0, 1) := dk_42 (dk_at dksX1_parse_0 5 rfl rfl)
theorem dX1_parse_6 : decode cX1_parse 6 = .ok (.iconst (-1), 1) := dk_2 (dk_at dksX1_parse_0 6 rfl rfl)
theorem dX1_parse_7 : decode cX1_parse 7 = .ok (.putfield 42, 3) := dk_181 0 42 (dk_at dksX1_parse_0 7 rfl rfl)
theorem dX1_parse_10 : decode cX1_parse 10 = .ok (.new 129, 3) := dk_187 0 129 (dk_at dksX1_parse_0 10 rfl rfl)
theorem dX1_parse_13 : decode cX1_parse 13 = .ok (.dup, 1) := dk_89 (dk_at dksX1_parse_0 13 rfl rfl)
theorem dX1_parse_14 : decode cX1_parse 14 = .ok (.aload_n 0, 1) := dk_42 (dk_at dksX1_parse_0 14 rfl rfl)
theorem dX1_parse_15 : decode cX1_parse 15 = .ok (.invokespecial 131, 3) := dk_183 0 131 (dk_at dksX1_parse_0 15 rfl rfl)
theorem dX1_parse_18 : decode cX1_parse 18 = .ok (.astore_n 1, 1) := dk_76 (dk_at dksX1_parse_0 18 rfl rfl)
theorem dX1_parse_19 : decode cX1_parse 19 = .ok (.aload_n 0, 1) := dk_42 (dk_at dksX1_parse_0 19 rfl rfl)
theorem dX1_parse_20 : decode cX1_parse 20 = .ok (.aload_n 1, 1) := dk_43 (dk_at dksX1_parse_0 20 rfl rfl)
theorem dX1_parse_21 : decode cX1_parse 21 = .ok (.invokevirtual 134, 3) := dk_182 0 134 (dk_at dksX1_parse_0 21 rfl rfl)
theorem dX1_parse_24 : decode cX1_parse 24 = .ok (.putfield 12, 3) := dk_181 0 12 (dk_at dksX1_parse_1 0 rfl rfl)
theorem dX1_parse_27 : decode cX1_parse 27 = .ok (.aload_n 0, 1) := dk_42 (dk_at dksX1_parse_1 3 rfl rfl)
theorem dX1_parse_28 : decode cX1_parse 28 = .ok (.aload_n 1, 1) := dk_43 (dk_at dksX1_parse_1 4 rfl rfl)
theorem dX1_parse_29 : decode cX1_parse 29 = .ok (.getfield 137, 3) := dk_180 0 137 (dk_at dksX1_parse_1 5 rfl rfl)
theorem dX1_parse_32 : decode cX1_parse 32 = .ok (.putfield 21, 3) := dk_181 0 21 (dk_at dksX1_parse_1 8 rfl rfl)
theorem dX1_parse_35 : decode cX1_parse 35 = .ok (.aload_n 0, 1) := dk_42 (dk_at dksX1_parse_1 11 rfl rfl)
theorem dX1_parse_36 : decode cX1_parse 36 = .ok (.getfield 28, 3) := dk_180 0 28 (dk_at dksX1_parse_1 12 rfl rfl)
theorem dX1_parse_39 : decode cX1_parse 39 = .ok (.invokevirtual 140, 3) := dk_182 0 140 (dk_at dksX1_parse_1 15 rfl rfl)
theorem dX1_parse_42 : decode cX1_parse 42 = .ok (.aload_n 0, 1) := dk_42 (dk_at dksX1_parse_1 18 rfl rfl)
theorem dX1_parse_43 : decode cX1_parse 43 = .ok (.getfield 34, 3) := dk_180 0 34 (dk_at dksX1_parse_1 19 rfl rfl)
theorem dX1_parse_46 : decode cX1_parse 46 = .ok (.aconst_null, 1) := dk_1 (dk_at dksX1_parse_1 22 rfl rfl)
theorem dX1_parse_47 : decode cX1_parse 47 = .ok (.invokestatic 143, 3) := dk_184 0 143 (dk_at dksX1_parse_2 0 rfl rfl)
theorem dX1_parse_50 : decode cX1_parse 50 = .ok (.aload_n 0, 1) := dk_42 (dk_at dksX1_parse_2 3 rfl rfl)
theorem dX1_parse_51 : decode cX1_parse 51 = .ok (.getfield 21, 3) := dk_180 0 21 (dk_at dksX1_parse_2 4 rfl rfl)
theorem dX1_parse_54 : decode cX1_parse 54 = .ok (.invokeinterface 149 1, 5) := by decide +kernel
theorem dX1_parse_59 : decode cX1_parse 59 = .ok (.istore_n 2, 1) := dk_61 (dk_at dksX1_parse_2 12 rfl rfl)
theorem dX1_parse_60 : decode cX1_parse 60 = .ok (.aload_n 0, 1) := dk_42 (dk_at dksX1_parse_2 13 rfl rfl)
theorem dX1_parse_61 : decode cX1_parse 61 = .ok (.iconst 0, 1) := dk_3 (dk_at dksX1_parse_2 14 rfl rfl)
theorem dX1_parse_62 : decode cX1_parse 62 = .ok (.putfield 119, 3) := dk_181 0 119 (dk_at dksX1_parse_2 15 rfl rfl)
theorem dX1_parse_65 : decode cX1_parse 65 = .ok (.iload_n 2, 1) := dk_28 (dk_at dksX1_parse_2 18 rfl rfl)
theorem dX1_parse_66 : decode cX1_parse 66 = .ok (.ireturn, 1) := dk_172 (dk_at dksX1_parse_2 19 rfl rfl)
theorem dX1_parse_67 : decode cX1_parse 67 = .ok (.astore_n 1, 1) := dk_76 (dk_at dksX1_parse_2 20 rfl rfl)
theorem dX1_parse_68 : decode cX1_parse 68 = .ok (.aload_n 0, 1) := dk_42 (dk_at dksX1_parse_2 21 rfl rfl)
theorem dX1_parse_69 : decode cX1_parse 69 = .ok (.aload_n 1, 1) := dk_43 (dk_at dksX1_parse_2 22 rfl rfl)
theorem dX1_parse_70 : decode cX1_parse 70 = .ok (.getfield 154, 3) := dk_180 0 154 (dk_at dksX1_parse_3 0 rfl rfl)
theorem dX1_parse_73 : decode cX1_parse 73 = .ok (.putfield 126, 3) := dk_181 0 126 (dk_at dksX1_parse_3 3 rfl rfl)
theorem dX1_parse_76 : decode cX1_parse 76 = .ok (.aload_n 0, 1) := dk_42 (dk_at dksX1_parse_3 6 rfl rfl)
theorem dX1_parse_77 : decode cX1_parse 77 = .ok (.aload_n 1, 1) := dk_43 (dk_at dksX1_parse_3 7 rfl rfl)
theorem dX1_parse_78 : decode cX1_parse 78 = .ok (.getfield 157, 3) := dk_180 0 157 (dk_at dksX1_parse_3 8 rfl rfl)
theorem dX1_parse_81 : decode cX1_parse 81 = .ok (.putfield 42, 3) := dk_181 0 42 (dk_at dksX1_parse_3 11 rfl rfl)
theorem dX1_parse_84 : decode cX1_parse 84 = .ok (.iconst (-1), 1) := dk_2 (dk_at dksX1_parse_3 14 rfl rfl)
theorem dX1_parse_85 : decode cX1_parse 85 = .ok (.istore_n 2, 1) := dk_61 (dk_at dksX1_parse_3 15 rfl rfl)
theorem dX1_parse_86 : decode cX1_parse 86 = .ok (.aload_n 0, 1) := dk_42 (dk_at dksX1_parse_3 16 rfl rfl)
theorem dX1_parse_87 : decode cX1_parse 87 = .ok (.iconst 0, 1) := dk_3 (dk_at dksX1_parse_3 17 rfl rfl)
theorem dX1_parse_88 : decode cX1_parse 88 = .ok (.putfield 119, 3) := dk_181 0 119 (dk_at dksX1_parse_3 18 rfl rfl)
theorem dX1_parse_91 : decode cX1_parse 91 = .ok (.iload_n 2, 1) := dk_28 (dk_at dksX1_parse_3 21 rfl rfl)
theorem dX1_parse_92 : decode cX1_parse 92 = .ok (.ireturn, 1) := dk_172 (dk_at dksX1_parse_3 22 rfl rfl)
theorem dX1_parse_93 : decode cX1_parse 93 = .ok (.astore_n 3, 1) := dk_78 (dk_at dksX1_parse_3 23 rfl rfl)
theorem dX1_parse_94 : decode cX1_parse 94 = .ok (.aload_n 0, 1) := dk_42 (dk_at dksX1_parse_4 0 rfl rfl)
theorem dX1_parse_95 : decode cX1_parse 95 = .ok (.iconst 0, 1) := dk_3 (dk_at dksX1_parse_4 1 rfl rfl)
theorem dX1_parse_96 : decode cX1_parse 96 = .ok (.putfield 119, 3) := dk_181 0 119 (dk_at dksX1_parse_4 2 rfl rfl)
theorem dX1_parse_99 : decode cX1_parse 99 = .ok (.aload_n 3, 1) := dk_45 (dk_at dksX1_parse_4 5 rfl rfl)
theorem dX1_parse_100 : decode cX1_parse 100 = .ok (.athrow, 1) := dk_191 (dk_at dksX1_parse_4 6 rfl rfl)
abbrev cX1_isDouble : ByteArray := prog_1_method_12_code
def yX1_isDouble : MethodName := ⟨RX1, "isDouble", "(I)Z"⟩
def dkwX1_isDouble_0 : List UInt8 := [26, 16, 6, 16, 8, 184, 0, 88, 172]
abbrev dktX1_isDouble_0 : List UInt8 := dkwX1_isDouble_0 ++ []
theorem dksX1_isDouble_0 : cX1_isDouble.data.toList.drop 0 = dktX1_isDouble_0 := by decide +kernel
theorem dX1_isDouble_0 : decode cX1_isDouble 0 = .ok (.iload_n 0, 1) := dk_26 (dk_at dksX1_isDouble_0 0 rfl rfl)
theorem dX1_isDouble_1 : decode cX1_isDouble 1 = .ok (.bipush 6, 2) := dk_16 6 (dk_at dksX1_isDouble_0 1 rfl rfl)
theorem dX1_isDouble_3 : decode cX1_isDouble 3 = .ok (.bipush 8, 2) := dk_16 8 (dk_at dksX1_isDouble_0 3 rfl rfl)
theorem dX1_isDouble_5 : decode cX1_isDouble 5 = .ok (.invokestatic 88, 3) := dk_184 0 88 (dk_at dksX1_isDouble_0 5 rfl rfl)
theorem dX1_isDouble_8 : decode cX1_isDouble 8 = .ok (.ireturn, 1) := dk_172 (dk_at dksX1_isDouble_0 8 rfl rfl)
abbrev cX1_errorCode : ByteArray := prog_1_method_20_code
def yX1_errorCode : MethodName := ⟨RX1, "errorCode", "()I"⟩
theorem dX1_errorCode_0 : decode cX1_errorCode 0 = .ok (.aload_n 0, 1) := by decide +kernel
theorem dX1_errorCode_1 : decode cX1_errorCode 1 = .ok (.getfield 126, 3) := by decide +kernel
theorem dX1_errorCode_4 : decode cX1_errorCode 4 = .ok (.ireturn, 1) := by decide +kernel
abbrev cX1_errorOffset : ByteArray := prog_1_method_21_code
def yX1_errorOffset : MethodName := ⟨RX1, "errorOffset", "()I"⟩
theorem dX1_errorOffset_0 : decode cX1_errorOffset 0 = .ok (.aload_n 0, 1) := by decide +kernel
theorem dX1_errorOffset_1 : decode cX1_errorOffset 1 = .ok (.getfield 42, 3) := by decide +kernel
theorem dX1_errorOffset_4 : decode cX1_errorOffset 4 = .ok (.ireturn, 1) := by decide +kernel
abbrev cX1_count : ByteArray := prog_1_method_23_code
def yX1_count : MethodName := ⟨RX1, "count", "(I)I"⟩
def dkwX1_count_4 : List UInt8 := [172, 42, 180, 0, 12, 180, 0, 185, 182, 0, 103, 172, 42, 180, 0, 28, 182, 0, 103, 172, 2, 172]
abbrev dktX1_count_4 : List UInt8 := dkwX1_count_4 ++ []
def dkwX1_count_3 : List UInt8 := [180, 0, 12, 180, 0, 160, 185, 0, 149, 1, 0, 172, 42, 182, 0, 179, 172, 42, 180, 0, 12, 180, 0, 182]
abbrev dktX1_count_3 : List UInt8 := dkwX1_count_3 ++ dktX1_count_4
def dkwX1_count_2 : List UInt8 := [42, 182, 0, 173, 172, 42, 180, 0, 21, 185, 0, 149, 1, 0, 172, 42, 180, 0, 12, 180, 0, 176, 172, 42]
abbrev dktX1_count_2 : List UInt8 := dkwX1_count_2 ++ dktX1_count_3
def dkwX1_count_1 : List UInt8 := [170, 0, 0, 0, 0, 0, 115, 0, 0, 0, 0, 0, 0, 0, 7, 0, 0, 0, 47, 0, 0, 0, 52, 0, 0, 0, 62, 0, 0, 0, 70, 0, 0, 0, 83, 0, 0, 0, 88, 0, 0, 0, 96, 0, 0, 0, 107]
abbrev dktX1_count_1 : List UInt8 := dkwX1_count_1 ++ dktX1_count_2
def dkwX1_count_0 : List UInt8 := [27]
abbrev dktX1_count_0 : List UInt8 := dkwX1_count_0 ++ dktX1_count_1
theorem dksX1_count_0 : cX1_count.data.toList.drop 0 = dktX1_count_0 := by decide +kernel
theorem dksX1_count_1 : cX1_count.data.toList.drop 1 = dktX1_count_1 := dk_seg dksX1_count_0 1 rfl rfl
theorem dksX1_count_2 : cX1_count.data.toList.drop 48 = dktX1_count_2 := dk_seg dksX1_count_1 47 rfl rfl
theorem dksX1_count_3 : cX1_count.data.toList.drop 72 = dktX1_count_3 := dk_seg dksX1_count_2 24 rfl rfl
theorem dksX1_count_4 : cX1_count.data.toList.drop 96 = dktX1_count_4 := dk_seg dksX1_count_3 24 rfl rfl
theorem dX1_count_0 : decode cX1_count 0 = .ok (.iload_n 1, 1) := dk_27 (dk_at dksX1_count_0 0 rfl rfl)
theorem dX1_count_1 : decode cX1_count 1 = .ok (.tableswitch 115 0 7 #[47, 52, 62, 70, 83, 88, 96, 107], 47) := by decide +kernel
theorem dX1_count_48 : decode cX1_count 48 = .ok (.aload_n 0, 1) := dk_42 (dk_at dksX1_count_2 0 rfl rfl)
theorem dX1_count_49 : decode cX1_count 49 = .ok (.invokevirtual 173, 3) := dk_182 0 173 (dk_at dksX1_count_2 1 rfl rfl)
theorem dX1_count_52 : decode cX1_count 52 = .ok (.ireturn, 1) := dk_172 (dk_at dksX1_count_2 4 rfl rfl)
theorem dX1_count_53 : decode cX1_count 53 = .ok (.aload_n 0, 1) := dk_42 (dk_at dksX1_count_2 5 rfl rfl)
theorem dX1_count_54 : decode cX1_count 54 = .ok (.getfield 21, 3) := dk_180 0 21 (dk_at dksX1_count_2 6 rfl rfl)
theorem dX1_count_57 : decode cX1_count 57 = .ok (.invokeinterface 149 1, 5) := by decide +kernel
theorem dX1_count_62 : decode cX1_count 62 = .ok (.ireturn, 1) := dk_172 (dk_at dksX1_count_2 14 rfl rfl)
theorem dX1_count_63 : decode cX1_count 63 = .ok (.aload_n 0, 1) := dk_42 (dk_at dksX1_count_2 15 rfl rfl)
theorem dX1_count_64 : decode cX1_count 64 = .ok (.getfield 12, 3) := dk_180 0 12 (dk_at dksX1_count_2 16 rfl rfl)
theorem dX1_count_67 : decode cX1_count 67 = .ok (.getfield 176, 3) := dk_180 0 176 (dk_at dksX1_count_2 19 rfl rfl)
theorem dX1_count_70 : decode cX1_count 70 = .ok (.ireturn, 1) := dk_172 (dk_at dksX1_count_2 22 rfl rfl)
theorem dX1_count_71 : decode cX1_count 71 = .ok (.aload_n 0, 1) := dk_42 (dk_at dksX1_count_2 23 rfl rfl)
theorem dX1_count_72 : decode cX1_count 72 = .ok (.getfield 12, 3) := dk_180 0 12 (dk_at dksX1_count_3 0 rfl rfl)
theorem dX1_count_75 : decode cX1_count 75 = .ok (.getfield 160, 3) := dk_180 0 160 (dk_at dksX1_count_3 3 rfl rfl)
theorem dX1_count_78 : decode cX1_count 78 = .ok (.invokeinterface 149 1, 5) := by decide +kernel
theorem dX1_count_83 : decode cX1_count 83 = .ok (.ireturn, 1) := dk_172 (dk_at dksX1_count_3 11 rfl rfl)
theorem dX1_count_84 : decode cX1_count 84 = .ok (.aload_n 0, 1) := dk_42 (dk_at dksX1_count_3 12 rfl rfl)
theorem dX1_count_85 : decode cX1_count 85 = .ok (.invokevirtual 179, 3) := dk_182 0 179 (dk_at dksX1_count_3 13 rfl rfl)
theorem dX1_count_88 : decode cX1_count 88 = .ok (.ireturn, 1) := dk_172 (dk_at dksX1_count_3 16 rfl rfl)
theorem dX1_count_89 : decode cX1_count 89 = .ok (.aload_n 0, 1) := dk_42 (dk_at dksX1_count_3 17 rfl rfl)
theorem dX1_count_90 : decode cX1_count 90 = .ok (.getfield 12, 3) := dk_180 0 12 (dk_at dksX1_count_3 18 rfl rfl)
theorem dX1_count_93 : decode cX1_count 93 = .ok (.getfield 182, 3) := dk_180 0 182 (dk_at dksX1_count_3 21 rfl rfl)
theorem dX1_count_96 : decode cX1_count 96 = .ok (.ireturn, 1) := dk_172 (dk_at dksX1_count_4 0 rfl rfl)
theorem dX1_count_97 : decode cX1_count 97 = .ok (.aload_n 0, 1) := dk_42 (dk_at dksX1_count_4 1 rfl rfl)
theorem dX1_count_98 : decode cX1_count 98 = .ok (.getfield 12, 3) := dk_180 0 12 (dk_at dksX1_count_4 2 rfl rfl)
theorem dX1_count_101 : decode cX1_count 101 = .ok (.getfield 185, 3) := dk_180 0 185 (dk_at dksX1_count_4 5 rfl rfl)
theorem dX1_count_104 : decode cX1_count 104 = .ok (.invokevirtual 103, 3) := dk_182 0 103 (dk_at dksX1_count_4 8 rfl rfl)
theorem dX1_count_107 : decode cX1_count 107 = .ok (.ireturn, 1) := dk_172 (dk_at dksX1_count_4 11 rfl rfl)
theorem dX1_count_108 : decode cX1_count 108 = .ok (.aload_n 0, 1) := dk_42 (dk_at dksX1_count_4 12 rfl rfl)
theorem dX1_count_109 : decode cX1_count 109 = .ok (.getfield 28, 3) := dk_180 0 28 (dk_at dksX1_count_4 13 rfl rfl)
theorem dX1_count_112 : decode cX1_count 112 = .ok (.invokevirtual 103, 3) := dk_182 0 103 (dk_at dksX1_count_4 16 rfl rfl)
theorem dX1_count_115 : decode cX1_count 115 = .ok (.ireturn, 1) := dk_172 (dk_at dksX1_count_4 19 rfl rfl)
theorem dX1_count_116 : decode cX1_count 116 = .ok (.iconst (-1), 1) := dk_2 (dk_at dksX1_count_4 20 rfl rfl)
theorem dX1_count_117 : decode cX1_count 117 = .ok (.ireturn, 1) := dk_172 (dk_at dksX1_count_4 21 rfl rfl)
abbrev cX1_qubits : ByteArray := prog_1_method_14_code
def yX1_qubits : MethodName := ⟨RX1, "qubits", "()I"⟩
def dkwX1_qubits_0 : List UInt8 := [42, 180, 0, 12, 180, 0, 95, 180, 0, 99, 190, 172]
abbrev dktX1_qubits_0 : List UInt8 := dkwX1_qubits_0 ++ []
theorem dksX1_qubits_0 : cX1_qubits.data.toList.drop 0 = dktX1_qubits_0 := by decide +kernel
theorem dX1_qubits_0 : decode cX1_qubits 0 = .ok (.aload_n 0, 1) := dk_42 (dk_at dksX1_qubits_0 0 rfl rfl)
theorem dX1_qubits_1 : decode cX1_qubits 1 = .ok (.getfield 12, 3) := dk_180 0 12 (dk_at dksX1_qubits_0 1 rfl rfl)
theorem dX1_qubits_4 : decode cX1_qubits 4 = .ok (.getfield 95, 3) := dk_180 0 95 (dk_at dksX1_qubits_0 4 rfl rfl)
theorem dX1_qubits_7 : decode cX1_qubits 7 = .ok (.getfield 99, 3) := dk_180 0 99 (dk_at dksX1_qubits_0 7 rfl rfl)
theorem dX1_qubits_10 : decode cX1_qubits 10 = .ok (.arraylength, 1) := dk_190 (dk_at dksX1_qubits_0 10 rfl rfl)
theorem dX1_qubits_11 : decode cX1_qubits 11 = .ok (.ireturn, 1) := dk_172 (dk_at dksX1_qubits_0 11 rfl rfl)
abbrev cX1_randomOnes : ByteArray := prog_1_method_22_code
def yX1_randomOnes : MethodName := ⟨RX1, "randomOnes", "()I"⟩
def dkwX1_randomOnes_2 : List UInt8 := [167, 255, 212, 27, 172]
abbrev dktX1_randomOnes_2 : List UInt8 := dkwX1_randomOnes_2 ++ []
def dkwX1_randomOnes_1 : List UInt8 := [180, 0, 160, 28, 185, 0, 163, 2, 0, 192, 0, 167, 180, 0, 169, 153, 0, 6, 132, 1, 1, 132, 2, 1]
abbrev dktX1_randomOnes_1 : List UInt8 := dkwX1_randomOnes_1 ++ dktX1_randomOnes_2
def dkwX1_randomOnes_0 : List UInt8 := [3, 60, 3, 61, 28, 42, 180, 0, 12, 180, 0, 160, 185, 0, 149, 1, 0, 162, 0, 34, 42, 180, 0, 12]
abbrev dktX1_randomOnes_0 : List UInt8 := dkwX1_randomOnes_0 ++ dktX1_randomOnes_1
theorem dksX1_randomOnes_0 : cX1_randomOnes.data.toList.drop 0 = dktX1_randomOnes_0 := by decide +kernel
theorem dksX1_randomOnes_1 : cX1_randomOnes.data.toList.drop 24 = dktX1_randomOnes_1 := dk_seg dksX1_randomOnes_0 24 rfl rfl
theorem dksX1_randomOnes_2 : cX1_randomOnes.data.toList.drop 48 = dktX1_randomOnes_2 := dk_seg dksX1_randomOnes_1 24 rfl rfl
theorem dX1_randomOnes_0 : decode cX1_randomOnes 0 = .ok (.iconst 0, 1) := dk_3 (dk_at dksX1_randomOnes_0 0 rfl rfl)
theorem dX1_randomOnes_1 : decode cX1_randomOnes 1 = .ok (.istore_n 1, 1) := dk_60 (dk_at dksX1_randomOnes_0 1 rfl rfl)
theorem dX1_randomOnes_2 : decode cX1_randomOnes 2 = .ok (.iconst 0, 1) := dk_3 (dk_at dksX1_randomOnes_0 2 rfl rfl)
theorem dX1_randomOnes_3 : decode cX1_randomOnes 3 = .ok (.istore_n 2, 1) := dk_61 (dk_at dksX1_randomOnes_0 3 rfl rfl)
theorem dX1_randomOnes_4 : decode cX1_randomOnes 4 = .ok (.iload_n 2, 1) := dk_28 (dk_at dksX1_randomOnes_0 4 rfl rfl)
theorem dX1_randomOnes_5 : decode cX1_randomOnes 5 = .ok (.aload_n 0, 1) := dk_42 (dk_at dksX1_randomOnes_0 5 rfl rfl)
theorem dX1_randomOnes_6 : decode cX1_randomOnes 6 = .ok (.getfield 12, 3) := dk_180 0 12 (dk_at dksX1_randomOnes_0 6 rfl rfl)
theorem dX1_randomOnes_9 : decode cX1_randomOnes 9 = .ok (.getfield 160, 3) := dk_180 0 160 (dk_at dksX1_randomOnes_0 9 rfl rfl)
theorem dX1_randomOnes_12 : decode cX1_randomOnes 12 = .ok (.invokeinterface 149 1, 5) := by decide +kernel
theorem dX1_randomOnes_17 : decode cX1_randomOnes 17 = .ok (.if_icmp .ge 34, 3) := dk_162 0 34 (dk_at dksX1_randomOnes_0 17 rfl rfl)
theorem dX1_randomOnes_20 : decode cX1_randomOnes 20 = .ok (.aload_n 0, 1) := dk_42 (dk_at dksX1_randomOnes_0 20 rfl rfl)
theorem dX1_randomOnes_21 : decode cX1_randomOnes 21 = .ok (.getfield 12, 3) := dk_180 0 12 (dk_at dksX1_randomOnes_0 21 rfl rfl)
theorem dX1_randomOnes_24 : decode cX1_randomOnes 24 = .ok (.getfield 160, 3) := dk_180 0 160 (dk_at dksX1_randomOnes_1 0 rfl rfl)
theorem dX1_randomOnes_27 : decode cX1_randomOnes 27 = .ok (.iload_n 2, 1) := dk_28 (dk_at dksX1_randomOnes_1 3 rfl rfl)
theorem dX1_randomOnes_28 : decode cX1_randomOnes 28 = .ok (.invokeinterface 163 2, 5) := by decide +kernel
theorem dX1_randomOnes_33 : decode cX1_randomOnes 33 = .ok (.checkcast 167, 3) := dk_192 0 167 (dk_at dksX1_randomOnes_1 9 rfl rfl)
theorem dX1_randomOnes_36 : decode cX1_randomOnes 36 = .ok (.getfield 169, 3) := dk_180 0 169 (dk_at dksX1_randomOnes_1 12 rfl rfl)
theorem dX1_randomOnes_39 : decode cX1_randomOnes 39 = .ok (.ifCond .eq 6, 3) := dk_153 0 6 (dk_at dksX1_randomOnes_1 15 rfl rfl)
theorem dX1_randomOnes_42 : decode cX1_randomOnes 42 = .ok (.iinc 1 1, 3) := dk_132 1 1 (dk_at dksX1_randomOnes_1 18 rfl rfl)
theorem dX1_randomOnes_45 : decode cX1_randomOnes 45 = .ok (.iinc 2 1, 3) := dk_132 2 1 (dk_at dksX1_randomOnes_1 21 rfl rfl)
theorem dX1_randomOnes_48 : decode cX1_randomOnes 48 = .ok (.goto (-44), 3) := dk_167 255 212 (dk_at dksX1_randomOnes_2 0 rfl rfl)
theorem dX1_randomOnes_51 : decode cX1_randomOnes 51 = .ok (.iload_n 1, 1) := dk_27 (dk_at dksX1_randomOnes_2 3 rfl rfl)
theorem dX1_randomOnes_52 : decode cX1_randomOnes 52 = .ok (.ireturn, 1) := dk_172 (dk_at dksX1_randomOnes_2 4 rfl rfl)
abbrev cX1_step : ByteArray := prog_1_method_32_code
def yX1_step : MethodName := ⟨RX1, "step", "()I"⟩
def dkwX1_step_1 : List UInt8 := [3, 172]
abbrev dktX1_step_1 : List UInt8 := dkwX1_step_1 ++ []
def dkwX1_step_0 : List UInt8 := [42, 182, 0, 247, 154, 0, 5, 2, 172, 42, 182, 0, 210, 42, 182, 0, 250, 153, 0, 7, 4, 167, 0, 4]
abbrev dktX1_step_0 : List UInt8 := dkwX1_step_0 ++ dktX1_step_1
theorem dksX1_step_0 : cX1_step.data.toList.drop 0 = dktX1_step_0 := by decide +kernel
theorem dksX1_step_1 : cX1_step.data.toList.drop 24 = dktX1_step_1 := dk_seg dksX1_step_0 24 rfl rfl
theorem dX1_step_0 : decode cX1_step 0 = .ok (.aload_n 0, 1) := dk_42 (dk_at dksX1_step_0 0 rfl rfl)
theorem dX1_step_1 : decode cX1_step 1 = .ok (.invokevirtual 247, 3) := dk_182 0 247 (dk_at dksX1_step_0 1 rfl rfl)
theorem dX1_step_4 : decode cX1_step 4 = .ok (.ifCond .ne 5, 3) := dk_154 0 5 (dk_at dksX1_step_0 4 rfl rfl)
theorem dX1_step_7 : decode cX1_step 7 = .ok (.iconst (-1), 1) := dk_2 (dk_at dksX1_step_0 7 rfl rfl)
theorem dX1_step_8 : decode cX1_step 8 = .ok (.ireturn, 1) := dk_172 (dk_at dksX1_step_0 8 rfl rfl)
theorem dX1_step_9 : decode cX1_step 9 = .ok (.aload_n 0, 1) := dk_42 (dk_at dksX1_step_0 9 rfl rfl)
theorem dX1_step_10 : decode cX1_step 10 = .ok (.invokevirtual 210, 3) := dk_182 0 210 (dk_at dksX1_step_0 10 rfl rfl)
theorem dX1_step_13 : decode cX1_step 13 = .ok (.aload_n 0, 1) := dk_42 (dk_at dksX1_step_0 13 rfl rfl)
theorem dX1_step_14 : decode cX1_step 14 = .ok (.invokevirtual 250, 3) := dk_182 0 250 (dk_at dksX1_step_0 14 rfl rfl)
theorem dX1_step_17 : decode cX1_step 17 = .ok (.ifCond .eq 7, 3) := dk_153 0 7 (dk_at dksX1_step_0 17 rfl rfl)
theorem dX1_step_20 : decode cX1_step 20 = .ok (.iconst 1, 1) := dk_4 (dk_at dksX1_step_0 20 rfl rfl)
theorem dX1_step_21 : decode cX1_step 21 = .ok (.goto 4, 3) := dk_167 0 4 (dk_at dksX1_step_0 21 rfl rfl)
theorem dX1_step_24 : decode cX1_step 24 = .ok (.iconst 0, 1) := dk_3 (dk_at dksX1_step_1 0 rfl rfl)
theorem dX1_step_25 : decode cX1_step 25 = .ok (.ireturn, 1) := dk_172 (dk_at dksX1_step_1 1 rfl rfl)
abbrev cX1_canStep : ByteArray := prog_1_method_30_code
def yX1_canStep : MethodName := ⟨RX1, "canStep", "()Z"⟩
def dkwX1_canStep_2 : List UInt8 := [3, 172]
abbrev dktX1_canStep_2 : List UInt8 := dkwX1_canStep_2 ++ []
def dkwX1_canStep_1 : List UInt8 := [180, 0, 12, 180, 0, 176, 185, 0, 163, 2, 0, 192, 0, 192, 182, 0, 240, 153, 0, 7, 4, 167, 0, 4]
abbrev dktX1_canStep_1 : List UInt8 := dkwX1_canStep_1 ++ dktX1_canStep_2
def dkwX1_canStep_0 : List UInt8 := [42, 180, 0, 12, 180, 0, 176, 42, 180, 0, 21, 185, 0, 149, 1, 0, 162, 0, 32, 42, 180, 0, 21, 42]
abbrev dktX1_canStep_0 : List UInt8 := dkwX1_canStep_0 ++ dktX1_canStep_1
theorem dksX1_canStep_0 : cX1_canStep.data.toList.drop 0 = dktX1_canStep_0 := by decide +kernel
theorem dksX1_canStep_1 : cX1_canStep.data.toList.drop 24 = dktX1_canStep_1 := dk_seg dksX1_canStep_0 24 rfl rfl
theorem dksX1_canStep_2 : cX1_canStep.data.toList.drop 48 = dktX1_canStep_2 := dk_seg dksX1_canStep_1 24 rfl rfl
theorem dX1_canStep_0 : decode cX1_canStep 0 = .ok (.aload_n 0, 1) := dk_42 (dk_at dksX1_canStep_0 0 rfl rfl)
theorem dX1_canStep_1 : decode cX1_canStep 1 = .ok (.getfield 12, 3) := dk_180 0 12 (dk_at dksX1_canStep_0 1 rfl rfl)
theorem dX1_canStep_4 : decode cX1_canStep 4 = .ok (.getfield 176, 3) := dk_180 0 176 (dk_at dksX1_canStep_0 4 rfl rfl)
theorem dX1_canStep_7 : decode cX1_canStep 7 = .ok (.aload_n 0, 1) := dk_42 (dk_at dksX1_canStep_0 7 rfl rfl)
theorem dX1_canStep_8 : decode cX1_canStep 8 = .ok (.getfield 21, 3) := dk_180 0 21 (dk_at dksX1_canStep_0 8 rfl rfl)
theorem dX1_canStep_11 : decode cX1_canStep 11 = .ok (.invokeinterface 149 1, 5) := by decide +kernel
theorem dX1_canStep_16 : decode cX1_canStep 16 = .ok (.if_icmp .ge 32, 3) := dk_162 0 32 (dk_at dksX1_canStep_0 16 rfl rfl)
theorem dX1_canStep_19 : decode cX1_canStep 19 = .ok (.aload_n 0, 1) := dk_42 (dk_at dksX1_canStep_0 19 rfl rfl)
theorem dX1_canStep_20 : decode cX1_canStep 20 = .ok (.getfield 21, 3) := dk_180 0 21 (dk_at dksX1_canStep_0 20 rfl rfl)
theorem dX1_canStep_23 : decode cX1_canStep 23 = .ok (.aload_n 0, 1) := dk_42 (dk_at dksX1_canStep_0 23 rfl rfl)
theorem dX1_canStep_24 : decode cX1_canStep 24 = .ok (.getfield 12, 3) := dk_180 0 12 (dk_at dksX1_canStep_1 0 rfl rfl)
theorem dX1_canStep_27 : decode cX1_canStep 27 = .ok (.getfield 176, 3) := dk_180 0 176 (dk_at dksX1_canStep_1 3 rfl rfl)
theorem dX1_canStep_30 : decode cX1_canStep 30 = .ok (.invokeinterface 163 2, 5) := by decide +kernel
theorem dX1_canStep_35 : decode cX1_canStep 35 = .ok (.checkcast 192, 3) := dk_192 0 192 (dk_at dksX1_canStep_1 11 rfl rfl)
theorem dX1_canStep_38 : decode cX1_canStep 38 = .ok (.invokevirtual 240, 3) := dk_182 0 240 (dk_at dksX1_canStep_1 14 rfl rfl)
theorem dX1_canStep_41 : decode cX1_canStep 41 = .ok (.ifCond .eq 7, 3) := dk_153 0 7 (dk_at dksX1_canStep_1 17 rfl rfl)
theorem dX1_canStep_44 : decode cX1_canStep 44 = .ok (.iconst 1, 1) := dk_4 (dk_at dksX1_canStep_1 20 rfl rfl)
theorem dX1_canStep_45 : decode cX1_canStep 45 = .ok (.goto 4, 3) := dk_167 0 4 (dk_at dksX1_canStep_1 21 rfl rfl)
theorem dX1_canStep_48 : decode cX1_canStep 48 = .ok (.iconst 0, 1) := dk_3 (dk_at dksX1_canStep_2 0 rfl rfl)
theorem dX1_canStep_49 : decode cX1_canStep 49 = .ok (.ireturn, 1) := dk_172 (dk_at dksX1_canStep_2 1 rfl rfl)
abbrev cX1_doCommute : ByteArray := prog_1_method_9_code
def yX1_doCommute : MethodName := ⟨RX1, "doCommute", "(IIII)Z"⟩
def dkwX1_doCommute_0 : List UInt8 := [26, 29, 126, 184, 0, 70, 27, 28, 126, 184, 0, 70, 96, 5, 112, 154, 0, 7, 4, 167, 0, 4, 3, 172]
abbrev dktX1_doCommute_0 : List UInt8 := dkwX1_doCommute_0 ++ []
theorem dksX1_doCommute_0 : cX1_doCommute.data.toList.drop 0 = dktX1_doCommute_0 := by decide +kernel
theorem dX1_doCommute_0 : decode cX1_doCommute 0 = .ok (.iload_n 0, 1) := dk_26 (dk_at dksX1_doCommute_0 0 rfl rfl)
theorem dX1_doCommute_1 : decode cX1_doCommute 1 = .ok (.iload_n 3, 1) := dk_29 (dk_at dksX1_doCommute_0 1 rfl rfl)
theorem dX1_doCommute_2 : decode cX1_doCommute 2 = .ok (.iand, 1) := dk_126 (dk_at dksX1_doCommute_0 2 rfl rfl)
theorem dX1_doCommute_3 : decode cX1_doCommute 3 = .ok (.invokestatic 70, 3) := dk_184 0 70 (dk_at dksX1_doCommute_0 3 rfl rfl)
theorem dX1_doCommute_6 : decode cX1_doCommute 6 = .ok (.iload_n 1, 1) := dk_27 (dk_at dksX1_doCommute_0 6 rfl rfl)
theorem dX1_doCommute_7 : decode cX1_doCommute 7 = .ok (.iload_n 2, 1) := dk_28 (dk_at dksX1_doCommute_0 7 rfl rfl)
theorem dX1_doCommute_8 : decode cX1_doCommute 8 = .ok (.iand, 1) := dk_126 (dk_at dksX1_doCommute_0 8 rfl rfl)
theorem dX1_doCommute_9 : decode cX1_doCommute 9 = .ok (.invokestatic 70, 3) := dk_184 0 70 (dk_at dksX1_doCommute_0 9 rfl rfl)
theorem dX1_doCommute_12 : decode cX1_doCommute 12 = .ok (.iadd, 1) := dk_96 (dk_at dksX1_doCommute_0 12 rfl rfl)
theorem dX1_doCommute_13 : decode cX1_doCommute 13 = .ok (.iconst 2, 1) := dk_5 (dk_at dksX1_doCommute_0 13 rfl rfl)
theorem dX1_doCommute_14 : decode cX1_doCommute 14 = .ok (.irem, 1) := dk_112 (dk_at dksX1_doCommute_0 14 rfl rfl)
theorem dX1_doCommute_15 : decode cX1_doCommute 15 = .ok (.ifCond .ne 7, 3) := dk_154 0 7 (dk_at dksX1_doCommute_0 15 rfl rfl)
theorem dX1_doCommute_18 : decode cX1_doCommute 18 = .ok (.iconst 1, 1) := dk_4 (dk_at dksX1_doCommute_0 18 rfl rfl)
theorem dX1_doCommute_19 : decode cX1_doCommute 19 = .ok (.goto 4, 3) := dk_167 0 4 (dk_at dksX1_doCommute_0 19 rfl rfl)
theorem dX1_doCommute_22 : decode cX1_doCommute 22 = .ok (.iconst 0, 1) := dk_3 (dk_at dksX1_doCommute_0 22 rfl rfl)
theorem dX1_doCommute_23 : decode cX1_doCommute 23 = .ok (.ireturn, 1) := dk_172 (dk_at dksX1_doCommute_0 23 rfl rfl)
abbrev cX1_has : ByteArray := prog_1_method_6_code
def yX1_has : MethodName := ⟨RX1, "has", "(II)Z"⟩
def dkwX1_has_0 : List UInt8 := [26, 27, 122, 4, 126, 4, 160, 0, 7, 4, 167, 0, 4, 3, 172]
abbrev dktX1_has_0 : List UInt8 := dkwX1_has_0 ++ []
theorem dksX1_has_0 : cX1_has.data.toList.drop 0 = dktX1_has_0 := by decide +kernel
theorem dX1_has_0 : decode cX1_has 0 = .ok (.iload_n 0, 1) := dk_26 (dk_at dksX1_has_0 0 rfl rfl)
theorem dX1_has_1 : decode cX1_has 1 = .ok (.iload_n 1, 1) := dk_27 (dk_at dksX1_has_0 1 rfl rfl)
theorem dX1_has_2 : decode cX1_has 2 = .ok (.ishr, 1) := dk_122 (dk_at dksX1_has_0 2 rfl rfl)
theorem dX1_has_3 : decode cX1_has 3 = .ok (.iconst 1, 1) := dk_4 (dk_at dksX1_has_0 3 rfl rfl)
theorem dX1_has_4 : decode cX1_has 4 = .ok (.iand, 1) := dk_126 (dk_at dksX1_has_0 4 rfl rfl)
theorem dX1_has_5 : decode cX1_has 5 = .ok (.iconst 1, 1) := dk_4 (dk_at dksX1_has_0 5 rfl rfl)
theorem dX1_has_6 : decode cX1_has 6 = .ok (.if_icmp .ne 7, 3) := dk_160 0 7 (dk_at dksX1_has_0 6 rfl rfl)
theorem dX1_has_9 : decode cX1_has 9 = .ok (.iconst 1, 1) := dk_4 (dk_at dksX1_has_0 9 rfl rfl)
theorem dX1_has_10 : decode cX1_has 10 = .ok (.goto 4, 3) := dk_167 0 4 (dk_at dksX1_has_0 10 rfl rfl)
theorem dX1_has_13 : decode cX1_has 13 = .ok (.iconst 0, 1) := dk_3 (dk_at dksX1_has_0 13 rfl rfl)
theorem dX1_has_14 : decode cX1_has 14 = .ok (.ireturn, 1) := dk_172 (dk_at dksX1_has_0 14 rfl rfl)
abbrev cX1_phaseOf : ByteArray := prog_1_method_8_code
def yX1_phaseOf : MethodName := ⟨RX1, "phaseOf", "(IIII)I"⟩
def dkwX1_phaseOf_3 : List UInt8 := [54, 4, 132, 5, 1, 167, 255, 185, 21, 4, 7, 112, 172]
abbrev dktX1_phaseOf_3 : List UInt8 := dkwX1_phaseOf_3 ++ []
def dkwX1_phaseOf_2 : List UInt8 := [167, 0, 26, 21, 4, 21, 7, 21, 6, 100, 6, 96, 6, 112, 4, 160, 0, 7, 4, 167, 0, 4, 6, 96]
abbrev dktX1_phaseOf_2 : List UInt8 := dkwX1_phaseOf_2 ++ dktX1_phaseOf_3
def dkwX1_phaseOf_1 : List UInt8 := [21, 5, 184, 0, 66, 54, 7, 21, 6, 153, 0, 41, 21, 7, 153, 0, 36, 21, 6, 21, 7, 160, 0, 6]
abbrev dktX1_phaseOf_1 : List UInt8 := dkwX1_phaseOf_1 ++ dktX1_phaseOf_2
def dkwX1_phaseOf_0 : List UInt8 := [3, 54, 4, 3, 54, 5, 21, 5, 16, 8, 162, 0, 70, 26, 27, 21, 5, 184, 0, 66, 54, 6, 28, 29]
abbrev dktX1_phaseOf_0 : List UInt8 := dkwX1_phaseOf_0 ++ dktX1_phaseOf_1
theorem dksX1_phaseOf_0 : cX1_phaseOf.data.toList.drop 0 = dktX1_phaseOf_0 := by decide +kernel
theorem dksX1_phaseOf_1 : cX1_phaseOf.data.toList.drop 24 = dktX1_phaseOf_1 := dk_seg dksX1_phaseOf_0 24 rfl rfl
theorem dksX1_phaseOf_2 : cX1_phaseOf.data.toList.drop 48 = dktX1_phaseOf_2 := dk_seg dksX1_phaseOf_1 24 rfl rfl
theorem dksX1_phaseOf_3 : cX1_phaseOf.data.toList.drop 72 = dktX1_phaseOf_3 := dk_seg dksX1_phaseOf_2 24 rfl rfl
theorem dX1_phaseOf_0 : decode cX1_phaseOf 0 = .ok (.iconst 0, 1) := dk_3 (dk_at dksX1_phaseOf_0 0 rfl rfl)
theorem dX1_phaseOf_1 : decode cX1_phaseOf 1 = .ok (.istore 4, 2) := dk_54 4 (dk_at dksX1_phaseOf_0 1 rfl rfl)
theorem dX1_phaseOf_3 : decode cX1_phaseOf 3 = .ok (.iconst 0, 1) := dk_3 (dk_at dksX1_phaseOf_0 3 rfl rfl)
theorem dX1_phaseOf_4 : decode cX1_phaseOf 4 = .ok (.istore 5, 2) := dk_54 5 (dk_at dksX1_phaseOf_0 4 rfl rfl)
theorem dX1_phaseOf_6 : decode cX1_phaseOf 6 = .ok (.iload 5, 2) := dk_21 5 (dk_at dksX1_phaseOf_0 6 rfl rfl)
theorem dX1_phaseOf_8 : decode cX1_phaseOf 8 = .ok (.bipush 8, 2) := dk_16 8 (dk_at dksX1_phaseOf_0 8 rfl rfl)
theorem dX1_phaseOf_10 : decode cX1_phaseOf 10 = .ok (.if_icmp .ge 70, 3) := dk_162 0 70 (dk_at dksX1_phaseOf_0 10 rfl rfl)
theorem dX1_phaseOf_13 : decode cX1_phaseOf 13 = .ok (.iload_n 0, 1) := dk_26 (dk_at dksX1_phaseOf_0 13 rfl rfl)
theorem dX1_phaseOf_14 : decode cX1_phaseOf 14 = .ok (.iload_n 1, 1) := dk_27 (dk_at dksX1_phaseOf_0 14 rfl rfl)
theorem dX1_phaseOf_15 : decode cX1_phaseOf 15 = .ok (.iload 5, 2) := dk_21 5 (dk_at dksX1_phaseOf_0 15 rfl rfl)
theorem dX1_phaseOf_17 : decode cX1_phaseOf 17 = .ok (.invokestatic 66, 3) := dk_184 0 66 (dk_at dksX1_phaseOf_0 17 rfl rfl)
theorem dX1_phaseOf_20 : decode cX1_phaseOf 20 = .ok (.istore 6, 2) := dk_54 6 (dk_at dksX1_phaseOf_0 20 rfl rfl)
theorem dX1_phaseOf_22 : decode cX1_phaseOf 22 = .ok (.iload_n 2, 1) := dk_28 (dk_at dksX1_phaseOf_0 22 rfl rfl)
theorem dX1_phaseOf_23 : decode cX1_phaseOf 23 = .ok (.iload_n 3, 1) := dk_29 (dk_at dksX1_phaseOf_0 23 rfl rfl)
theorem dX1_phaseOf_24 : decode cX1_phaseOf 24 = .ok (.iload 5, 2) := dk_21 5 (dk_at dksX1_phaseOf_1 0 rfl rfl)
theorem dX1_phaseOf_26 : decode cX1_phaseOf 26 = .ok (.invokestatic 66, 3) := dk_184 0 66 (dk_at dksX1_phaseOf_1 2 rfl rfl)
theorem dX1_phaseOf_29 : decode cX1_phaseOf 29 = .ok (.istore 7, 2) := dk_54 7 (dk_at dksX1_phaseOf_1 5 rfl rfl)
theorem dX1_phaseOf_31 : decode cX1_phaseOf 31 = .ok (.iload 6, 2) := dk_21 6 (dk_at dksX1_phaseOf_1 7 rfl rfl)
theorem dX1_phaseOf_33 : decode cX1_phaseOf 33 = .ok (.ifCond .eq 41, 3) := dk_153 0 41 (dk_at dksX1_phaseOf_1 9 rfl rfl)
theorem dX1_phaseOf_36 : decode cX1_phaseOf 36 = .ok (.iload 7, 2) := dk_21 7 (dk_at dksX1_phaseOf_1 12 rfl rfl)
theorem dX1_phaseOf_38 : decode cX1_phaseOf 38 = .ok (.ifCond .eq 36, 3) := dk_153 0 36 (dk_at dksX1_phaseOf_1 14 rfl rfl)
theorem dX1_phaseOf_41 : decode cX1_phaseOf 41 = .ok (.iload 6, 2) := dk_21 6 (dk_at dksX1_phaseOf_1 17 rfl rfl)
theorem dX1_phaseOf_43 : decode cX1_phaseOf 43 = .ok (.iload 7, 2) := dk_21 7 (dk_at dksX1_phaseOf_1 19 rfl rfl)
theorem dX1_phaseOf_45 : decode cX1_phaseOf 45 = .ok (.if_icmp .ne 6, 3) := dk_160 0 6 (dk_at dksX1_phaseOf_1 21 rfl rfl)
theorem dX1_phaseOf_48 : decode cX1_phaseOf 48 = .ok (.goto 26, 3) := dk_167 0 26 (dk_at dksX1_phaseOf_2 0 rfl rfl)
theorem dX1_phaseOf_51 : decode cX1_phaseOf 51 = .ok (.iload 4, 2) := dk_21 4 (dk_at dksX1_phaseOf_2 3 rfl rfl)
theorem dX1_phaseOf_53 : decode cX1_phaseOf 53 = .ok (.iload 7, 2) := dk_21 7 (dk_at dksX1_phaseOf_2 5 rfl rfl)
theorem dX1_phaseOf_55 : decode cX1_phaseOf 55 = .ok (.iload 6, 2) := dk_21 6 (dk_at dksX1_phaseOf_2 7 rfl rfl)
theorem dX1_phaseOf_57 : decode cX1_phaseOf 57 = .ok (.isub, 1) := dk_100 (dk_at dksX1_phaseOf_2 9 rfl rfl)
theorem dX1_phaseOf_58 : decode cX1_phaseOf 58 = .ok (.iconst 3, 1) := dk_6 (dk_at dksX1_phaseOf_2 10 rfl rfl)
theorem dX1_phaseOf_59 : decode cX1_phaseOf 59 = .ok (.iadd, 1) := dk_96 (dk_at dksX1_phaseOf_2 11 rfl rfl)
theorem dX1_phaseOf_60 : decode cX1_phaseOf 60 = .ok (.iconst 3, 1) := dk_6 (dk_at dksX1_phaseOf_2 12 rfl rfl)
theorem dX1_phaseOf_61 : decode cX1_phaseOf 61 = .ok (.irem, 1) := dk_112 (dk_at dksX1_phaseOf_2 13 rfl rfl)
theorem dX1_phaseOf_62 : decode cX1_phaseOf 62 = .ok (.iconst 1, 1) := dk_4 (dk_at dksX1_phaseOf_2 14 rfl rfl)
theorem dX1_phaseOf_63 : decode cX1_phaseOf 63 = .ok (.if_icmp .ne 7, 3) := dk_160 0 7 (dk_at dksX1_phaseOf_2 15 rfl rfl)
theorem dX1_phaseOf_66 : decode cX1_phaseOf 66 = .ok (.iconst 1, 1) := dk_4 (dk_at dksX1_phaseOf_2 18 rfl rfl)
theorem dX1_phaseOf_67 : decode cX1_phaseOf 67 = .ok (.goto 4, 3) := dk_167 0 4 (dk_at dksX1_phaseOf_2 19 rfl rfl)
theorem dX1_phaseOf_70 : decode cX1_phaseOf 70 = .ok (.iconst 3, 1) := dk_6 (dk_at dksX1_phaseOf_2 22 rfl rfl)
theorem dX1_phaseOf_71 : decode cX1_phaseOf 71 = .ok (.iadd, 1) := dk_96 (dk_at dksX1_phaseOf_2 23 rfl rfl)
theorem dX1_phaseOf_72 : decode cX1_phaseOf 72 = .ok (.istore 4, 2) := dk_54 4 (dk_at dksX1_phaseOf_3 0 rfl rfl)
theorem dX1_phaseOf_74 : decode cX1_phaseOf 74 = .ok (.iinc 5 1, 3) := dk_132 5 1 (dk_at dksX1_phaseOf_3 2 rfl rfl)
theorem dX1_phaseOf_77 : decode cX1_phaseOf 77 = .ok (.goto (-71), 3) := dk_167 255 185 (dk_at dksX1_phaseOf_3 5 rfl rfl)
theorem dX1_phaseOf_80 : decode cX1_phaseOf 80 = .ok (.iload 4, 2) := dk_21 4 (dk_at dksX1_phaseOf_3 8 rfl rfl)
theorem dX1_phaseOf_82 : decode cX1_phaseOf 82 = .ok (.iconst 4, 1) := dk_7 (dk_at dksX1_phaseOf_3 10 rfl rfl)
theorem dX1_phaseOf_83 : decode cX1_phaseOf 83 = .ok (.irem, 1) := dk_112 (dk_at dksX1_phaseOf_3 11 rfl rfl)
theorem dX1_phaseOf_84 : decode cX1_phaseOf 84 = .ok (.ireturn, 1) := dk_172 (dk_at dksX1_phaseOf_3 12 rfl rfl)
abbrev cX1_letterOf : ByteArray := prog_1_method_7_code
def yX1_letterOf : MethodName := ⟨RX1, "letterOf", "(III)I"⟩
def dkwX1_letterOf_1 : List UInt8 := [27, 28, 184, 0, 62, 153, 0, 7, 6, 167, 0, 4, 3, 172]
abbrev dktX1_letterOf_1 : List UInt8 := dkwX1_letterOf_1 ++ []
def dkwX1_letterOf_0 : List UInt8 := [26, 28, 184, 0, 62, 153, 0, 19, 27, 28, 184, 0, 62, 153, 0, 7, 5, 167, 0, 20, 4, 167, 0, 16]
abbrev dktX1_letterOf_0 : List UInt8 := dkwX1_letterOf_0 ++ dktX1_letterOf_1
theorem dksX1_letterOf_0 : cX1_letterOf.data.toList.drop 0 = dktX1_letterOf_0 := by decide +kernel
theorem dksX1_letterOf_1 : cX1_letterOf.data.toList.drop 24 = dktX1_letterOf_1 := dk_seg dksX1_letterOf_0 24 rfl rfl
theorem dX1_letterOf_0 : decode cX1_letterOf 0 = .ok (.iload_n 0, 1) := dk_26 (dk_at dksX1_letterOf_0 0 rfl rfl)
theorem dX1_letterOf_1 : decode cX1_letterOf 1 = .ok (.iload_n 2, 1) := dk_28 (dk_at dksX1_letterOf_0 1 rfl rfl)
theorem dX1_letterOf_2 : decode cX1_letterOf 2 = .ok (.invokestatic 62, 3) := dk_184 0 62 (dk_at dksX1_letterOf_0 2 rfl rfl)
theorem dX1_letterOf_5 : decode cX1_letterOf 5 = .ok (.ifCond .eq 19, 3) := dk_153 0 19 (dk_at dksX1_letterOf_0 5 rfl rfl)
theorem dX1_letterOf_8 : decode cX1_letterOf 8 = .ok (.iload_n 1, 1) := dk_27 (dk_at dksX1_letterOf_0 8 rfl rfl)
theorem dX1_letterOf_9 : decode cX1_letterOf 9 = .ok (.iload_n 2, 1) := dk_28 (dk_at dksX1_letterOf_0 9 rfl rfl)
theorem dX1_letterOf_10 : decode cX1_letterOf 10 = .ok (.invokestatic 62, 3) := dk_184 0 62 (dk_at dksX1_letterOf_0 10 rfl rfl)
theorem dX1_letterOf_13 : decode cX1_letterOf 13 = .ok (.ifCond .eq 7, 3) := dk_153 0 7 (dk_at dksX1_letterOf_0 13 rfl rfl)
theorem dX1_letterOf_16 : decode cX1_letterOf 16 = .ok (.iconst 2, 1) := dk_5 (dk_at dksX1_letterOf_0 16 rfl rfl)
theorem dX1_letterOf_17 : decode cX1_letterOf 17 = .ok (.goto 20, 3) := dk_167 0 20 (dk_at dksX1_letterOf_0 17 rfl rfl)
theorem dX1_letterOf_20 : decode cX1_letterOf 20 = .ok (.iconst 1, 1) := dk_4 (dk_at dksX1_letterOf_0 20 rfl rfl)
theorem dX1_letterOf_21 : decode cX1_letterOf 21 = .ok (.goto 16, 3) := dk_167 0 16 (dk_at dksX1_letterOf_0 21 rfl rfl)
theorem dX1_letterOf_24 : decode cX1_letterOf 24 = .ok (.iload_n 1, 1) := dk_27 (dk_at dksX1_letterOf_1 0 rfl rfl)
theorem dX1_letterOf_25 : decode cX1_letterOf 25 = .ok (.iload_n 2, 1) := dk_28 (dk_at dksX1_letterOf_1 1 rfl rfl)
theorem dX1_letterOf_26 : decode cX1_letterOf 26 = .ok (.invokestatic 62, 3) := dk_184 0 62 (dk_at dksX1_letterOf_1 2 rfl rfl)
theorem dX1_letterOf_29 : decode cX1_letterOf 29 = .ok (.ifCond .eq 7, 3) := dk_153 0 7 (dk_at dksX1_letterOf_1 5 rfl rfl)
theorem dX1_letterOf_32 : decode cX1_letterOf 32 = .ok (.iconst 3, 1) := dk_6 (dk_at dksX1_letterOf_1 8 rfl rfl)
theorem dX1_letterOf_33 : decode cX1_letterOf 33 = .ok (.goto 4, 3) := dk_167 0 4 (dk_at dksX1_letterOf_1 9 rfl rfl)
theorem dX1_letterOf_36 : decode cX1_letterOf 36 = .ok (.iconst 0, 1) := dk_3 (dk_at dksX1_letterOf_1 12 rfl rfl)
theorem dX1_letterOf_37 : decode cX1_letterOf 37 = .ok (.ireturn, 1) := dk_172 (dk_at dksX1_letterOf_1 13 rfl rfl)
abbrev cX1_remember : ByteArray := prog_1_method_15_code
def yX1_remember : MethodName := ⟨RX1, "remember", "()V"⟩
def dkwX1_remember_1 : List UInt8 := [42, 180, 0, 12, 182, 0, 111, 42, 42, 180, 0, 12, 182, 0, 115, 181, 0, 12, 177]
abbrev dktX1_remember_1 : List UInt8 := dkwX1_remember_1 ++ []
def dkwX1_remember_0 : List UInt8 := [42, 180, 0, 28, 182, 0, 103, 16, 10, 160, 0, 11, 42, 180, 0, 28, 182, 0, 107, 87, 42, 180, 0, 28]
abbrev dktX1_remember_0 : List UInt8 := dkwX1_remember_0 ++ dktX1_remember_1
theorem dksX1_remember_0 : cX1_remember.data.toList.drop 0 = dktX1_remember_0 := by decide +kernel
theorem dksX1_remember_1 : cX1_remember.data.toList.drop 24 = dktX1_remember_1 := dk_seg dksX1_remember_0 24 rfl rfl
theorem dX1_remember_0 : decode cX1_remember 0 = .ok (.aload_n 0, 1) := dk_42 (dk_at dksX1_remember_0 0 rfl rfl)
theorem dX1_remember_1 : decode cX1_remember 1 = .ok (.getfield 28, 3) := dk_180 0 28 (dk_at dksX1_remember_0 1 rfl rfl)
theorem dX1_remember_4 : decode cX1_remember 4 = .ok (.invokevirtual 103, 3) := dk_182 0 103 (dk_at dksX1_remember_0 4 rfl rfl)
theorem dX1_remember_7 : decode cX1_remember 7 = .ok (.bipush 10, 2) := dk_16 10 (dk_at dksX1_remember_0 7 rfl rfl)
theorem dX1_remember_9 : decode cX1_remember 9 = .ok (.if_icmp .ne 11, 3) := dk_160 0 11 (dk_at dksX1_remember_0 9 rfl rfl)
theorem dX1_remember_12 : decode cX1_remember 12 = .ok (.aload_n 0, 1) := dk_42 (dk_at dksX1_remember_0 12 rfl rfl)
theorem dX1_remember_13 : decode cX1_remember 13 = .ok (.getfield 28, 3) := dk_180 0 28 (dk_at dksX1_remember_0 13 rfl rfl)
theorem dX1_remember_16 : decode cX1_remember 16 = .ok (.invokevirtual 107, 3) := dk_182 0 107 (dk_at dksX1_remember_0 16 rfl rfl)
theorem dX1_remember_19 : decode cX1_remember 19 = .ok (.pop, 1) := dk_87 (dk_at dksX1_remember_0 19 rfl rfl)
theorem dX1_remember_20 : decode cX1_remember 20 = .ok (.aload_n 0, 1) := dk_42 (dk_at dksX1_remember_0 20 rfl rfl)
theorem dX1_remember_21 : decode cX1_remember 21 = .ok (.getfield 28, 3) := dk_180 0 28 (dk_at dksX1_remember_0 21 rfl rfl)
theorem dX1_remember_24 : decode cX1_remember 24 = .ok (.aload_n 0, 1) := dk_42 (dk_at dksX1_remember_1 0 rfl rfl)
theorem dX1_remember_25 : decode cX1_remember 25 = .ok (.getfield 12, 3) := dk_180 0 12 (dk_at dksX1_remember_1 1 rfl rfl)
theorem dX1_remember_28 : decode cX1_remember 28 = .ok (.invokevirtual 111, 3) := dk_182 0 111 (dk_at dksX1_remember_1 4 rfl rfl)
theorem dX1_remember_31 : decode cX1_remember 31 = .ok (.aload_n 0, 1) := dk_42 (dk_at dksX1_remember_1 7 rfl rfl)
theorem dX1_remember_32 : decode cX1_remember 32 = .ok (.aload_n 0, 1) := dk_42 (dk_at dksX1_remember_1 8 rfl rfl)
theorem dX1_remember_33 : decode cX1_remember 33 = .ok (.getfield 12, 3) := dk_180 0 12 (dk_at dksX1_remember_1 9 rfl rfl)
theorem dX1_remember_36 : decode cX1_remember 36 = .ok (.invokevirtual 115, 3) := dk_182 0 115 (dk_at dksX1_remember_1 12 rfl rfl)
theorem dX1_remember_39 : decode cX1_remember 39 = .ok (.putfield 12, 3) := dk_181 0 12 (dk_at dksX1_remember_1 15 rfl rfl)
theorem dX1_remember_42 : decode cX1_remember 42 = .ok (.return_, 1) := dk_177 (dk_at dksX1_remember_1 18 rfl rfl)
abbrev cX1_executeNext : ByteArray := prog_1_method_31_code
def yX1_executeNext : MethodName := ⟨RX1, "executeNext", "()Z"⟩
def dkwX1_executeNext_1 : List UInt8 := [180, 0, 12, 89, 180, 0, 176, 4, 96, 181, 0, 176, 27, 172]
abbrev dktX1_executeNext_1 : List UInt8 := dkwX1_executeNext_1 ++ []
def dkwX1_executeNext_0 : List UInt8 := [42, 180, 0, 21, 42, 180, 0, 12, 180, 0, 176, 185, 0, 163, 2, 0, 192, 0, 192, 182, 0, 244, 60, 42]
abbrev dktX1_executeNext_0 : List UInt8 := dkwX1_executeNext_0 ++ dktX1_executeNext_1
theorem dksX1_executeNext_0 : cX1_executeNext.data.toList.drop 0 = dktX1_executeNext_0 := by decide +kernel
theorem dksX1_executeNext_1 : cX1_executeNext.data.toList.drop 24 = dktX1_executeNext_1 := dk_seg dksX1_executeNext_0 24 rfl rfl
theorem dX1_executeNext_0 : decode cX1_executeNext 0 = .ok (.aload_n 0, 1) := dk_42 (dk_at dksX1_executeNext_0 0 rfl rfl)
theorem dX1_executeNext_1 : decode cX1_executeNext 1 = .ok (.getfield 21, 3) := dk_180 0 21 (dk_at dksX1_executeNext_0 1 rfl rfl)
theorem dX1_executeNext_4 : decode cX1_executeNext 4 = .ok (.aload_n 0, 1) := dk_42 (dk_at dksX1_executeNext_0 4 rfl rfl)
theorem dX1_executeNext_5 : decode cX1_executeNext 5 = .ok (.getfield 12, 3) := dk_180 0 12 (dk_at dksX1_executeNext_0 5 rfl rfl)
theorem dX1_executeNext_8 : decode cX1_executeNext 8 = .ok (.getfield 176, 3) := dk_180 0 176 (dk_at dksX1_executeNext_0 8 rfl rfl)
theorem dX1_executeNext_11 : decode cX1_executeNext 11 = .ok (.invokeinterface 163 2, 5) := by decide +kernel
theorem dX1_executeNext_16 : decode cX1_executeNext 16 = .ok (.checkcast 192, 3) := dk_192 0 192 (dk_at dksX1_executeNext_0 16 rfl rfl)
theorem dX1_executeNext_19 : decode cX1_executeNext 19 = .ok (.invokevirtual 244, 3) := dk_182 0 244 (dk_at dksX1_executeNext_0 19 rfl rfl)
theorem dX1_executeNext_22 : decode cX1_executeNext 22 = .ok (.istore_n 1, 1) := dk_60 (dk_at dksX1_executeNext_0 22 rfl rfl)
theorem dX1_executeNext_23 : decode cX1_executeNext 23 = .ok (.aload_n 0, 1) := dk_42 (dk_at dksX1_executeNext_0 23 rfl rfl)
theorem dX1_executeNext_24 : decode cX1_executeNext 24 = .ok (.getfield 12, 3) := dk_180 0 12 (dk_at dksX1_executeNext_1 0 rfl rfl)
theorem dX1_executeNext_27 : decode cX1_executeNext 27 = .ok (.dup, 1) := dk_89 (dk_at dksX1_executeNext_1 3 rfl rfl)
theorem dX1_executeNext_28 : decode cX1_executeNext 28 = .ok (.getfield 176, 3) := dk_180 0 176 (dk_at dksX1_executeNext_1 4 rfl rfl)
theorem dX1_executeNext_31 : decode cX1_executeNext 31 = .ok (.iconst 1, 1) := dk_4 (dk_at dksX1_executeNext_1 7 rfl rfl)
theorem dX1_executeNext_32 : decode cX1_executeNext 32 = .ok (.iadd, 1) := dk_96 (dk_at dksX1_executeNext_1 8 rfl rfl)
theorem dX1_executeNext_33 : decode cX1_executeNext 33 = .ok (.putfield 176, 3) := dk_181 0 176 (dk_at dksX1_executeNext_1 9 rfl rfl)
theorem dX1_executeNext_36 : decode cX1_executeNext 36 = .ok (.iload_n 1, 1) := dk_27 (dk_at dksX1_executeNext_1 12 rfl rfl)
theorem dX1_executeNext_37 : decode cX1_executeNext 37 = .ok (.ireturn, 1) := dk_172 (dk_at dksX1_executeNext_1 13 rfl rfl)
abbrev cX1_gateOf : ByteArray := prog_1_method_10_code
def yX1_gateOf : MethodName := ⟨RX1, "gateOf", "(I)LStringTableau$Gate;"⟩
def dkwX1_gateOf_4 : List UInt8 := [186, 0, 85, 0, 0, 167, 0, 16, 186, 0, 86, 0, 0, 167, 0, 8, 186, 0, 87, 0, 0, 176]
abbrev dktX1_gateOf_4 : List UInt8 := dkwX1_gateOf_4 ++ []
def dkwX1_gateOf_3 : List UInt8 := [186, 0, 82, 0, 0, 167, 0, 40, 186, 0, 83, 0, 0, 167, 0, 32, 186, 0, 84, 0, 0, 167, 0, 24]
abbrev dktX1_gateOf_3 : List UInt8 := dkwX1_gateOf_3 ++ dktX1_gateOf_4
def dkwX1_gateOf_2 : List UInt8 := [186, 0, 76, 0, 0, 167, 0, 64, 186, 0, 80, 0, 0, 167, 0, 56, 186, 0, 81, 0, 0, 167, 0, 48]
abbrev dktX1_gateOf_2 : List UInt8 := dkwX1_gateOf_2 ++ dktX1_gateOf_3
def dkwX1_gateOf_1 : List UInt8 := [170, 0, 0, 0, 0, 0, 111, 0, 0, 0, 0, 0, 0, 0, 7, 0, 0, 0, 47, 0, 0, 0, 55, 0, 0, 0, 63, 0, 0, 0, 71, 0, 0, 0, 79, 0, 0, 0, 87, 0, 0, 0, 95, 0, 0, 0, 103]
abbrev dktX1_gateOf_1 : List UInt8 := dkwX1_gateOf_1 ++ dktX1_gateOf_2
def dkwX1_gateOf_0 : List UInt8 := [26]
abbrev dktX1_gateOf_0 : List UInt8 := dkwX1_gateOf_0 ++ dktX1_gateOf_1
theorem dksX1_gateOf_0 : cX1_gateOf.data.toList.drop 0 = dktX1_gateOf_0 := by decide +kernel
theorem dksX1_gateOf_1 : cX1_gateOf.data.toList.drop 1 = dktX1_gateOf_1 := dk_seg dksX1_gateOf_0 1 rfl rfl
theorem dksX1_gateOf_2 : cX1_gateOf.data.toList.drop 48 = dktX1_gateOf_2 := dk_seg dksX1_gateOf_1 47 rfl rfl
theorem dksX1_gateOf_3 : cX1_gateOf.data.toList.drop 72 = dktX1_gateOf_3 := dk_seg dksX1_gateOf_2 24 rfl rfl
theorem dksX1_gateOf_4 : cX1_gateOf.data.toList.drop 96 = dktX1_gateOf_4 := dk_seg dksX1_gateOf_3 24 rfl rfl
theorem dX1_gateOf_0 : decode cX1_gateOf 0 = .ok (.iload_n 0, 1) := dk_26 (dk_at dksX1_gateOf_0 0 rfl rfl)
theorem dX1_gateOf_1 : decode cX1_gateOf 1 = .ok (.tableswitch 111 0 7 #[47, 55, 63, 71, 79, 87, 95, 103], 47) := by decide +kernel
theorem dX1_gateOf_48 : decode cX1_gateOf 48 = .ok (.invokedynamic 76, 5) := by decide +kernel
theorem dX1_gateOf_53 : decode cX1_gateOf 53 = .ok (.goto 64, 3) := dk_167 0 64 (dk_at dksX1_gateOf_2 5 rfl rfl)
theorem dX1_gateOf_56 : decode cX1_gateOf 56 = .ok (.invokedynamic 80, 5) := by decide +kernel
theorem dX1_gateOf_61 : decode cX1_gateOf 61 = .ok (.goto 56, 3) := dk_167 0 56 (dk_at dksX1_gateOf_2 13 rfl rfl)
theorem dX1_gateOf_64 : decode cX1_gateOf 64 = .ok (.invokedynamic 81, 5) := by decide +kernel
theorem dX1_gateOf_69 : decode cX1_gateOf 69 = .ok (.goto 48, 3) := dk_167 0 48 (dk_at dksX1_gateOf_2 21 rfl rfl)
theorem dX1_gateOf_72 : decode cX1_gateOf 72 = .ok (.invokedynamic 82, 5) := by decide +kernel
theorem dX1_gateOf_77 : decode cX1_gateOf 77 = .ok (.goto 40, 3) := dk_167 0 40 (dk_at dksX1_gateOf_3 5 rfl rfl)
theorem dX1_gateOf_80 : decode cX1_gateOf 80 = .ok (.invokedynamic 83, 5) := by decide +kernel
theorem dX1_gateOf_85 : decode cX1_gateOf 85 = .ok (.goto 32, 3) := dk_167 0 32 (dk_at dksX1_gateOf_3 13 rfl rfl)
theorem dX1_gateOf_88 : decode cX1_gateOf 88 = .ok (.invokedynamic 84, 5) := by decide +kernel
theorem dX1_gateOf_93 : decode cX1_gateOf 93 = .ok (.goto 24, 3) := dk_167 0 24 (dk_at dksX1_gateOf_3 21 rfl rfl)
theorem dX1_gateOf_96 : decode cX1_gateOf 96 = .ok (.invokedynamic 85, 5) := by decide +kernel
theorem dX1_gateOf_101 : decode cX1_gateOf 101 = .ok (.goto 16, 3) := dk_167 0 16 (dk_at dksX1_gateOf_4 5 rfl rfl)
theorem dX1_gateOf_104 : decode cX1_gateOf 104 = .ok (.invokedynamic 86, 5) := by decide +kernel
theorem dX1_gateOf_109 : decode cX1_gateOf 109 = .ok (.goto 8, 3) := dk_167 0 8 (dk_at dksX1_gateOf_4 13 rfl rfl)
theorem dX1_gateOf_112 : decode cX1_gateOf 112 = .ok (.invokedynamic 87, 5) := by decide +kernel
theorem dX1_gateOf_117 : decode cX1_gateOf 117 = .ok (.areturn, 1) := dk_176 (dk_at dksX1_gateOf_4 21 rfl rfl)
abbrev cX1_lambda_gateOf_0 : ByteArray := prog_1_method_89_code
def yX1_lambda_gateOf_0 : MethodName := ⟨RX1, "lambda$gateOf$0", "(LStringTableau$Row;II)V"⟩
def dkwX1_lambda_gateOf_0_0 : List UInt8 := [42, 27, 182, 1, 220, 177]
abbrev dktX1_lambda_gateOf_0_0 : List UInt8 := dkwX1_lambda_gateOf_0_0 ++ []
theorem dksX1_lambda_gateOf_0_0 : cX1_lambda_gateOf_0.data.toList.drop 0 = dktX1_lambda_gateOf_0_0 := by decide +kernel
theorem dX1_lambda_gateOf_0_0 : decode cX1_lambda_gateOf_0 0 = .ok (.aload_n 0, 1) := dk_42 (dk_at dksX1_lambda_gateOf_0_0 0 rfl rfl)
theorem dX1_lambda_gateOf_0_1 : decode cX1_lambda_gateOf_0 1 = .ok (.iload_n 1, 1) := dk_27 (dk_at dksX1_lambda_gateOf_0_0 1 rfl rfl)
theorem dX1_lambda_gateOf_0_2 : decode cX1_lambda_gateOf_0 2 = .ok (.invokevirtual 476, 3) := dk_182 1 220 (dk_at dksX1_lambda_gateOf_0_0 2 rfl rfl)
theorem dX1_lambda_gateOf_0_5 : decode cX1_lambda_gateOf_0 5 = .ok (.return_, 1) := dk_177 (dk_at dksX1_lambda_gateOf_0_0 5 rfl rfl)
abbrev cX1_lambda_gateOf_1 : ByteArray := prog_1_method_88_code
def yX1_lambda_gateOf_1 : MethodName := ⟨RX1, "lambda$gateOf$1", "(LStringTableau$Row;II)V"⟩
def dkwX1_lambda_gateOf_1_0 : List UInt8 := [42, 27, 3, 182, 1, 216, 177]
abbrev dktX1_lambda_gateOf_1_0 : List UInt8 := dkwX1_lambda_gateOf_1_0 ++ []
theorem dksX1_lambda_gateOf_1_0 : cX1_lambda_gateOf_1.data.toList.drop 0 = dktX1_lambda_gateOf_1_0 := by decide +kernel
theorem dX1_lambda_gateOf_1_0 : decode cX1_lambda_gateOf_1 0 = .ok (.aload_n 0, 1) := dk_42 (dk_at dksX1_lambda_gateOf_1_0 0 rfl rfl)
theorem dX1_lambda_gateOf_1_1 : decode cX1_lambda_gateOf_1 1 = .ok (.iload_n 1, 1) := dk_27 (dk_at dksX1_lambda_gateOf_1_0 1 rfl rfl)
theorem dX1_lambda_gateOf_1_2 : decode cX1_lambda_gateOf_1 2 = .ok (.iconst 0, 1) := dk_3 (dk_at dksX1_lambda_gateOf_1_0 2 rfl rfl)
theorem dX1_lambda_gateOf_1_3 : decode cX1_lambda_gateOf_1 3 = .ok (.invokevirtual 472, 3) := dk_182 1 216 (dk_at dksX1_lambda_gateOf_1_0 3 rfl rfl)
theorem dX1_lambda_gateOf_1_6 : decode cX1_lambda_gateOf_1 6 = .ok (.return_, 1) := dk_177 (dk_at dksX1_lambda_gateOf_1_0 6 rfl rfl)
abbrev cX1_lambda_gateOf_2 : ByteArray := prog_1_method_87_code
def yX1_lambda_gateOf_2 : MethodName := ⟨RX1, "lambda$gateOf$2", "(LStringTableau$Row;II)V"⟩
def dkwX1_lambda_gateOf_2_0 : List UInt8 := [42, 27, 4, 182, 1, 216, 177]
abbrev dktX1_lambda_gateOf_2_0 : List UInt8 := dkwX1_lambda_gateOf_2_0 ++ []
theorem dksX1_lambda_gateOf_2_0 : cX1_lambda_gateOf_2.data.toList.drop 0 = dktX1_lambda_gateOf_2_0 := by decide +kernel
theorem dX1_lambda_gateOf_2_0 : decode cX1_lambda_gateOf_2 0 = .ok (.aload_n 0, 1) := dk_42 (dk_at dksX1_lambda_gateOf_2_0 0 rfl rfl)
theorem dX1_lambda_gateOf_2_1 : decode cX1_lambda_gateOf_2 1 = .ok (.iload_n 1, 1) := dk_27 (dk_at dksX1_lambda_gateOf_2_0 1 rfl rfl)
theorem dX1_lambda_gateOf_2_2 : decode cX1_lambda_gateOf_2 2 = .ok (.iconst 1, 1) := dk_4 (dk_at dksX1_lambda_gateOf_2_0 2 rfl rfl)
theorem dX1_lambda_gateOf_2_3 : decode cX1_lambda_gateOf_2 3 = .ok (.invokevirtual 472, 3) := dk_182 1 216 (dk_at dksX1_lambda_gateOf_2_0 3 rfl rfl)
theorem dX1_lambda_gateOf_2_6 : decode cX1_lambda_gateOf_2 6 = .ok (.return_, 1) := dk_177 (dk_at dksX1_lambda_gateOf_2_0 6 rfl rfl)
abbrev cX1_lambda_gateOf_3 : ByteArray := prog_1_method_86_code
def yX1_lambda_gateOf_3 : MethodName := ⟨RX1, "lambda$gateOf$3", "(LStringTableau$Row;II)V"⟩
def dkwX1_lambda_gateOf_3_0 : List UInt8 := [42, 42, 27, 182, 1, 213, 182, 1, 210, 177]
abbrev dktX1_lambda_gateOf_3_0 : List UInt8 := dkwX1_lambda_gateOf_3_0 ++ []
theorem dksX1_lambda_gateOf_3_0 : cX1_lambda_gateOf_3.data.toList.drop 0 = dktX1_lambda_gateOf_3_0 := by decide +kernel
theorem dX1_lambda_gateOf_3_0 : decode cX1_lambda_gateOf_3 0 = .ok (.aload_n 0, 1) := dk_42 (dk_at dksX1_lambda_gateOf_3_0 0 rfl rfl)
theorem dX1_lambda_gateOf_3_1 : decode cX1_lambda_gateOf_3 1 = .ok (.aload_n 0, 1) := dk_42 (dk_at dksX1_lambda_gateOf_3_0 1 rfl rfl)
theorem dX1_lambda_gateOf_3_2 : decode cX1_lambda_gateOf_3 2 = .ok (.iload_n 1, 1) := dk_27 (dk_at dksX1_lambda_gateOf_3_0 2 rfl rfl)
theorem dX1_lambda_gateOf_3_3 : decode cX1_lambda_gateOf_3 3 = .ok (.invokevirtual 469, 3) := dk_182 1 213 (dk_at dksX1_lambda_gateOf_3_0 3 rfl rfl)
theorem dX1_lambda_gateOf_3_6 : decode cX1_lambda_gateOf_3 6 = .ok (.invokevirtual 466, 3) := dk_182 1 210 (dk_at dksX1_lambda_gateOf_3_0 6 rfl rfl)
theorem dX1_lambda_gateOf_3_9 : decode cX1_lambda_gateOf_3 9 = .ok (.return_, 1) := dk_177 (dk_at dksX1_lambda_gateOf_3_0 9 rfl rfl)
abbrev cX1_lambda_gateOf_4 : ByteArray := prog_1_method_85_code
def yX1_lambda_gateOf_4 : MethodName := ⟨RX1, "lambda$gateOf$4", "(LStringTableau$Row;II)V"⟩
def dkwX1_lambda_gateOf_4_0 : List UInt8 := [42, 42, 27, 182, 1, 207, 42, 27, 182, 1, 213, 159, 0, 7, 4, 167, 0, 4, 3, 182, 1, 210, 177]
abbrev dktX1_lambda_gateOf_4_0 : List UInt8 := dkwX1_lambda_gateOf_4_0 ++ []
theorem dksX1_lambda_gateOf_4_0 : cX1_lambda_gateOf_4.data.toList.drop 0 = dktX1_lambda_gateOf_4_0 := by decide +kernel
theorem dX1_lambda_gateOf_4_0 : decode cX1_lambda_gateOf_4 0 = .ok (.aload_n 0, 1) := dk_42 (dk_at dksX1_lambda_gateOf_4_0 0 rfl rfl)
theorem dX1_lambda_gateOf_4_1 : decode cX1_lambda_gateOf_4 1 = .ok (.aload_n 0, 1) := dk_42 (dk_at dksX1_lambda_gateOf_4_0 1 rfl rfl)
theorem dX1_lambda_gateOf_4_2 : decode cX1_lambda_gateOf_4 2 = .ok (.iload_n 1, 1) := dk_27 (dk_at dksX1_lambda_gateOf_4_0 2 rfl rfl)
theorem dX1_lambda_gateOf_4_3 : decode cX1_lambda_gateOf_4 3 = .ok (.invokevirtual 463, 3) := dk_182 1 207 (dk_at dksX1_lambda_gateOf_4_0 3 rfl rfl)
theorem dX1_lambda_gateOf_4_6 : decode cX1_lambda_gateOf_4 6 = .ok (.aload_n 0, 1) := dk_42 (dk_at dksX1_lambda_gateOf_4_0 6 rfl rfl)
theorem dX1_lambda_gateOf_4_7 : decode cX1_lambda_gateOf_4 7 = .ok (.iload_n 1, 1) := dk_27 (dk_at dksX1_lambda_gateOf_4_0 7 rfl rfl)
theorem dX1_lambda_gateOf_4_8 : decode cX1_lambda_gateOf_4 8 = .ok (.invokevirtual 469, 3) := dk_182 1 213 (dk_at dksX1_lambda_gateOf_4_0 8 rfl rfl)
theorem dX1_lambda_gateOf_4_11 : decode cX1_lambda_gateOf_4 11 = .ok (.if_icmp .eq 7, 3) := dk_159 0 7 (dk_at dksX1_lambda_gateOf_4_0 11 rfl rfl)
theorem dX1_lambda_gateOf_4_14 : decode cX1_lambda_gateOf_4 14 = .ok (.iconst 1, 1) := dk_4 (dk_at dksX1_lambda_gateOf_4_0 14 rfl rfl)
theorem dX1_lambda_gateOf_4_15 : decode cX1_lambda_gateOf_4 15 = .ok (.goto 4, 3) := dk_167 0 4 (dk_at dksX1_lambda_gateOf_4_0 15 rfl rfl)
theorem dX1_lambda_gateOf_4_18 : decode cX1_lambda_gateOf_4 18 = .ok (.iconst 0, 1) := dk_3 (dk_at dksX1_lambda_gateOf_4_0 18 rfl rfl)
theorem dX1_lambda_gateOf_4_19 : decode cX1_lambda_gateOf_4 19 = .ok (.invokevirtual 466, 3) := dk_182 1 210 (dk_at dksX1_lambda_gateOf_4_0 19 rfl rfl)
theorem dX1_lambda_gateOf_4_22 : decode cX1_lambda_gateOf_4 22 = .ok (.return_, 1) := dk_177 (dk_at dksX1_lambda_gateOf_4_0 22 rfl rfl)
abbrev cX1_lambda_gateOf_5 : ByteArray := prog_1_method_84_code
def yX1_lambda_gateOf_5 : MethodName := ⟨RX1, "lambda$gateOf$5", "(LStringTableau$Row;II)V"⟩
def dkwX1_lambda_gateOf_5_0 : List UInt8 := [42, 42, 27, 182, 1, 207, 182, 1, 210, 177]
abbrev dktX1_lambda_gateOf_5_0 : List UInt8 := dkwX1_lambda_gateOf_5_0 ++ []
theorem dksX1_lambda_gateOf_5_0 : cX1_lambda_gateOf_5.data.toList.drop 0 = dktX1_lambda_gateOf_5_0 := by decide +kernel
theorem dX1_lambda_gateOf_5_0 : decode cX1_lambda_gateOf_5 0 = .ok (.aload_n 0, 1) := dk_42 (dk_at dksX1_lambda_gateOf_5_0 0 rfl rfl)
theorem dX1_lambda_gateOf_5_1 : decode cX1_lambda_gateOf_5 1 = .ok (.aload_n 0, 1) := dk_42 (dk_at dksX1_lambda_gateOf_5_0 1 rfl rfl)
theorem dX1_lambda_gateOf_5_2 : decode cX1_lambda_gateOf_5 2 = .ok (.iload_n 1, 1) := dk_27 (dk_at dksX1_lambda_gateOf_5_0 2 rfl rfl)
theorem dX1_lambda_gateOf_5_3 : decode cX1_lambda_gateOf_5 3 = .ok (.invokevirtual 463, 3) := dk_182 1 207 (dk_at dksX1_lambda_gateOf_5_0 3 rfl rfl)
theorem dX1_lambda_gateOf_5_6 : decode cX1_lambda_gateOf_5 6 = .ok (.invokevirtual 466, 3) := dk_182 1 210 (dk_at dksX1_lambda_gateOf_5_0 6 rfl rfl)
theorem dX1_lambda_gateOf_5_9 : decode cX1_lambda_gateOf_5 9 = .ok (.return_, 1) := dk_177 (dk_at dksX1_lambda_gateOf_5_0 9 rfl rfl)
abbrev cX1_lambda_gateOf_6 : ByteArray := prog_1_method_83_code
def yX1_lambda_gateOf_6 : MethodName := ⟨RX1, "lambda$gateOf$6", "(LStringTableau$Row;II)V"⟩
def dkwX1_lambda_gateOf_6_0 : List UInt8 := [42, 27, 28, 182, 1, 205, 177]
abbrev dktX1_lambda_gateOf_6_0 : List UInt8 := dkwX1_lambda_gateOf_6_0 ++ []
theorem dksX1_lambda_gateOf_6_0 : cX1_lambda_gateOf_6.data.toList.drop 0 = dktX1_lambda_gateOf_6_0 := by decide +kernel
theorem dX1_lambda_gateOf_6_0 : decode cX1_lambda_gateOf_6 0 = .ok (.aload_n 0, 1) := dk_42 (dk_at dksX1_lambda_gateOf_6_0 0 rfl rfl)
theorem dX1_lambda_gateOf_6_1 : decode cX1_lambda_gateOf_6 1 = .ok (.iload_n 1, 1) := dk_27 (dk_at dksX1_lambda_gateOf_6_0 1 rfl rfl)
theorem dX1_lambda_gateOf_6_2 : decode cX1_lambda_gateOf_6 2 = .ok (.iload_n 2, 1) := dk_28 (dk_at dksX1_lambda_gateOf_6_0 2 rfl rfl)
theorem dX1_lambda_gateOf_6_3 : decode cX1_lambda_gateOf_6 3 = .ok (.invokevirtual 461, 3) := dk_182 1 205 (dk_at dksX1_lambda_gateOf_6_0 3 rfl rfl)
theorem dX1_lambda_gateOf_6_6 : decode cX1_lambda_gateOf_6 6 = .ok (.return_, 1) := dk_177 (dk_at dksX1_lambda_gateOf_6_0 6 rfl rfl)
abbrev cX1_lambda_gateOf_7 : ByteArray := prog_1_method_82_code
def yX1_lambda_gateOf_7 : MethodName := ⟨RX1, "lambda$gateOf$7", "(LStringTableau$Row;II)V"⟩
def dkwX1_lambda_gateOf_7_0 : List UInt8 := [42, 27, 28, 182, 1, 203, 177]
abbrev dktX1_lambda_gateOf_7_0 : List UInt8 := dkwX1_lambda_gateOf_7_0 ++ []
theorem dksX1_lambda_gateOf_7_0 : cX1_lambda_gateOf_7.data.toList.drop 0 = dktX1_lambda_gateOf_7_0 := by decide +kernel
theorem dX1_lambda_gateOf_7_0 : decode cX1_lambda_gateOf_7 0 = .ok (.aload_n 0, 1) := dk_42 (dk_at dksX1_lambda_gateOf_7_0 0 rfl rfl)
theorem dX1_lambda_gateOf_7_1 : decode cX1_lambda_gateOf_7 1 = .ok (.iload_n 1, 1) := dk_27 (dk_at dksX1_lambda_gateOf_7_0 1 rfl rfl)
theorem dX1_lambda_gateOf_7_2 : decode cX1_lambda_gateOf_7 2 = .ok (.iload_n 2, 1) := dk_28 (dk_at dksX1_lambda_gateOf_7_0 2 rfl rfl)
theorem dX1_lambda_gateOf_7_3 : decode cX1_lambda_gateOf_7 3 = .ok (.invokevirtual 459, 3) := dk_182 1 203 (dk_at dksX1_lambda_gateOf_7_0 3 rfl rfl)
theorem dX1_lambda_gateOf_7_6 : decode cX1_lambda_gateOf_7 6 = .ok (.return_, 1) := dk_177 (dk_at dksX1_lambda_gateOf_7_0 6 rfl rfl)
abbrev cX1_lambda_gateOf_8 : ByteArray := prog_1_method_81_code
def yX1_lambda_gateOf_8 : MethodName := ⟨RX1, "lambda$gateOf$8", "(LStringTableau$Row;II)V"⟩
def dkwX1_lambda_gateOf_8_0 : List UInt8 := [42, 27, 28, 182, 1, 201, 177]
abbrev dktX1_lambda_gateOf_8_0 : List UInt8 := dkwX1_lambda_gateOf_8_0 ++ []
theorem dksX1_lambda_gateOf_8_0 : cX1_lambda_gateOf_8.data.toList.drop 0 = dktX1_lambda_gateOf_8_0 := by decide +kernel
theorem dX1_lambda_gateOf_8_0 : decode cX1_lambda_gateOf_8 0 = .ok (.aload_n 0, 1) := dk_42 (dk_at dksX1_lambda_gateOf_8_0 0 rfl rfl)
theorem dX1_lambda_gateOf_8_1 : decode cX1_lambda_gateOf_8 1 = .ok (.iload_n 1, 1) := dk_27 (dk_at dksX1_lambda_gateOf_8_0 1 rfl rfl)
theorem dX1_lambda_gateOf_8_2 : decode cX1_lambda_gateOf_8 2 = .ok (.iload_n 2, 1) := dk_28 (dk_at dksX1_lambda_gateOf_8_0 2 rfl rfl)
theorem dX1_lambda_gateOf_8_3 : decode cX1_lambda_gateOf_8 3 = .ok (.invokevirtual 457, 3) := dk_182 1 201 (dk_at dksX1_lambda_gateOf_8_0 3 rfl rfl)
theorem dX1_lambda_gateOf_8_6 : decode cX1_lambda_gateOf_8 6 = .ok (.return_, 1) := dk_177 (dk_at dksX1_lambda_gateOf_8_0 6 rfl rfl)
abbrev cX1_runnable : ByteArray := prog_1_method_34_code
def yX1_runnable : MethodName := ⟨RX1, "runnable", "()I"⟩
def dkwX1_runnable_2 : List UInt8 := [58, 4, 42, 43, 181, 0, 12, 25, 4, 191]
abbrev dktX1_runnable_2 : List UInt8 := dkwX1_runnable_2 ++ []
def dkwX1_runnable_1 : List UInt8 := [153, 0, 14, 42, 182, 0, 250, 87, 132, 2, 1, 167, 255, 241, 28, 62, 42, 43, 181, 0, 12, 29, 172]
abbrev dktX1_runnable_1 : List UInt8 := dkwX1_runnable_1 ++ dktX1_runnable_2
def dkwX1_runnable_0 : List UInt8 := [42, 180, 0, 12, 76, 42, 42, 180, 0, 12, 182, 0, 115, 181, 0, 12, 3, 61, 42, 182, 0, 247]
abbrev dktX1_runnable_0 : List UInt8 := dkwX1_runnable_0 ++ dktX1_runnable_1
theorem dksX1_runnable_0 : cX1_runnable.data.toList.drop 0 = dktX1_runnable_0 := by decide +kernel
theorem dksX1_runnable_1 : cX1_runnable.data.toList.drop 22 = dktX1_runnable_1 := dk_seg dksX1_runnable_0 22 rfl rfl
theorem dksX1_runnable_2 : cX1_runnable.data.toList.drop 45 = dktX1_runnable_2 := dk_seg dksX1_runnable_1 23 rfl rfl
theorem dX1_runnable_0 : decode cX1_runnable 0 = .ok (.aload_n 0, 1) := dk_42 (dk_at dksX1_runnable_0 0 rfl rfl)
theorem dX1_runnable_1 : decode cX1_runnable 1 = .ok (.getfield 12, 3) := dk_180 0 12 (dk_at dksX1_runnable_0 1 rfl rfl)
theorem dX1_runnable_4 : decode cX1_runnable 4 = .ok (.astore_n 1, 1) := dk_76 (dk_at dksX1_runnable_0 4 rfl rfl)
theorem dX1_runnable_5 : decode cX1_runnable 5 = .ok (.aload_n 0, 1) := dk_42 (dk_at dksX1_runnable_0 5 rfl rfl)
theorem dX1_runnable_6 : decode cX1_runnable 6 = .ok (.aload_n 0, 1) := dk_42 (dk_at dksX1_runnable_0 6 rfl rfl)
theorem dX1_runnable_7 : decode cX1_runnable 7 = .ok (.getfield 12, 3) := dk_180 0 12 (dk_at dksX1_runnable_0 7 rfl rfl)
theorem dX1_runnable_10 : decode cX1_runnable 10 = .ok (.invokevirtual 115, 3) := dk_182 0 115 (dk_at dksX1_runnable_0 10 rfl rfl)
theorem dX1_runnable_13 : decode cX1_runnable 13 = .ok (.putfield 12, 3) := dk_181 0 12 (dk_at dksX1_runnable_0 13 rfl rfl)
theorem dX1_runnable_16 : decode cX1_runnable 16 = .ok (.iconst 0, 1) := dk_3 (dk_at dksX1_runnable_0 16 rfl rfl)
theorem dX1_runnable_17 : decode cX1_runnable 17 = .ok (.istore_n 2, 1) := dk_61 (dk_at dksX1_runnable_0 17 rfl rfl)
theorem dX1_runnable_18 : decode cX1_runnable 18 = .ok (.aload_n 0, 1) := dk_42 (dk_at dksX1_runnable_0 18 rfl rfl)
theorem dX1_runnable_19 : decode cX1_runnable 19 = .ok (.invokevirtual 247, 3) := dk_182 0 247 (dk_at dksX1_runnable_0 19 rfl rfl)
theorem dX1_runnable_22 : decode cX1_runnable 22 = .ok (.ifCond .eq 14, 3) := dk_153 0 14 (dk_at dksX1_runnable_1 0 rfl rfl)
theorem dX1_runnable_25 : decode cX1_runnable 25 = .ok (.aload_n 0, 1) := dk_42 (dk_at dksX1_runnable_1 3 rfl rfl)
theorem dX1_runnable_26 : decode cX1_runnable 26 = .ok (.invokevirtual 250, 3) := dk_182 0 250 (dk_at dksX1_runnable_1 4 rfl rfl)
theorem dX1_runnable_29 : decode cX1_runnable 29 = .ok (.pop, 1) := dk_87 (dk_at dksX1_runnable_1 7 rfl rfl)
theorem dX1_runnable_30 : decode cX1_runnable 30 = .ok (.iinc 2 1, 3) := dk_132 2 1 (dk_at dksX1_runnable_1 8 rfl rfl)
theorem dX1_runnable_33 : decode cX1_runnable 33 = .ok (.goto (-15), 3) := dk_167 255 241 (dk_at dksX1_runnable_1 11 rfl rfl)
theorem dX1_runnable_36 : decode cX1_runnable 36 = .ok (.iload_n 2, 1) := dk_28 (dk_at dksX1_runnable_1 14 rfl rfl)
theorem dX1_runnable_37 : decode cX1_runnable 37 = .ok (.istore_n 3, 1) := dk_62 (dk_at dksX1_runnable_1 15 rfl rfl)
theorem dX1_runnable_38 : decode cX1_runnable 38 = .ok (.aload_n 0, 1) := dk_42 (dk_at dksX1_runnable_1 16 rfl rfl)
theorem dX1_runnable_39 : decode cX1_runnable 39 = .ok (.aload_n 1, 1) := dk_43 (dk_at dksX1_runnable_1 17 rfl rfl)
theorem dX1_runnable_40 : decode cX1_runnable 40 = .ok (.putfield 12, 3) := dk_181 0 12 (dk_at dksX1_runnable_1 18 rfl rfl)
theorem dX1_runnable_43 : decode cX1_runnable 43 = .ok (.iload_n 3, 1) := dk_29 (dk_at dksX1_runnable_1 21 rfl rfl)
theorem dX1_runnable_44 : decode cX1_runnable 44 = .ok (.ireturn, 1) := dk_172 (dk_at dksX1_runnable_1 22 rfl rfl)
theorem dX1_runnable_45 : decode cX1_runnable 45 = .ok (.astore 4, 2) := dk_58 4 (dk_at dksX1_runnable_2 0 rfl rfl)
theorem dX1_runnable_47 : decode cX1_runnable 47 = .ok (.aload_n 0, 1) := dk_42 (dk_at dksX1_runnable_2 2 rfl rfl)
theorem dX1_runnable_48 : decode cX1_runnable 48 = .ok (.aload_n 1, 1) := dk_43 (dk_at dksX1_runnable_2 3 rfl rfl)
theorem dX1_runnable_49 : decode cX1_runnable 49 = .ok (.putfield 12, 3) := dk_181 0 12 (dk_at dksX1_runnable_2 4 rfl rfl)
theorem dX1_runnable_52 : decode cX1_runnable 52 = .ok (.aload 4, 2) := dk_25 4 (dk_at dksX1_runnable_2 7 rfl rfl)
theorem dX1_runnable_54 : decode cX1_runnable 54 = .ok (.athrow, 1) := dk_191 (dk_at dksX1_runnable_2 9 rfl rfl)
abbrev cX1_makeCanonical : ByteArray := prog_1_method_37_code
def yX1_makeCanonical : MethodName := ⟨RX1, "makeCanonical", "()I"⟩
def dkwX1_makeCanonical_0 : List UInt8 := [42, 42, 180, 0, 12, 180, 0, 95, 182, 1, 8, 182, 1, 12, 172]
abbrev dktX1_makeCanonical_0 : List UInt8 := dkwX1_makeCanonical_0 ++ []
theorem dksX1_makeCanonical_0 : cX1_makeCanonical.data.toList.drop 0 = dktX1_makeCanonical_0 := by decide +kernel
theorem dX1_makeCanonical_0 : decode cX1_makeCanonical 0 = .ok (.aload_n 0, 1) := dk_42 (dk_at dksX1_makeCanonical_0 0 rfl rfl)
theorem dX1_makeCanonical_1 : decode cX1_makeCanonical 1 = .ok (.aload_n 0, 1) := dk_42 (dk_at dksX1_makeCanonical_0 1 rfl rfl)
theorem dX1_makeCanonical_2 : decode cX1_makeCanonical 2 = .ok (.getfield 12, 3) := dk_180 0 12 (dk_at dksX1_makeCanonical_0 2 rfl rfl)
theorem dX1_makeCanonical_5 : decode cX1_makeCanonical 5 = .ok (.getfield 95, 3) := dk_180 0 95 (dk_at dksX1_makeCanonical_0 5 rfl rfl)
theorem dX1_makeCanonical_8 : decode cX1_makeCanonical 8 = .ok (.invokevirtual 264, 3) := dk_182 1 8 (dk_at dksX1_makeCanonical_0 8 rfl rfl)
theorem dX1_makeCanonical_11 : decode cX1_makeCanonical 11 = .ok (.invokevirtual 268, 3) := dk_182 1 12 (dk_at dksX1_makeCanonical_0 11 rfl rfl)
theorem dX1_makeCanonical_14 : decode cX1_makeCanonical 14 = .ok (.ireturn, 1) := dk_172 (dk_at dksX1_makeCanonical_0 14 rfl rfl)
abbrev cX1_replaceRows : ByteArray := prog_1_method_36_code
def yX1_replaceRows : MethodName := ⟨RX1, "replaceRows", "(LStringTableau$Tableau;)I"⟩
def dkwX1_replaceRows_1 : List UInt8 := [182, 0, 217, 172]
abbrev dktX1_replaceRows_1 : List UInt8 := dkwX1_replaceRows_1 ++ []
def dkwX1_replaceRows_0 : List UInt8 := [42, 180, 0, 12, 180, 0, 95, 77, 42, 182, 0, 210, 42, 180, 0, 12, 43, 181, 0, 95, 43, 44]
abbrev dktX1_replaceRows_0 : List UInt8 := dkwX1_replaceRows_0 ++ dktX1_replaceRows_1
theorem dksX1_replaceRows_0 : cX1_replaceRows.data.toList.drop 0 = dktX1_replaceRows_0 := by decide +kernel
theorem dksX1_replaceRows_1 : cX1_replaceRows.data.toList.drop 22 = dktX1_replaceRows_1 := dk_seg dksX1_replaceRows_0 22 rfl rfl
theorem dX1_replaceRows_0 : decode cX1_replaceRows 0 = .ok (.aload_n 0, 1) := dk_42 (dk_at dksX1_replaceRows_0 0 rfl rfl)
theorem dX1_replaceRows_1 : decode cX1_replaceRows 1 = .ok (.getfield 12, 3) := dk_180 0 12 (dk_at dksX1_replaceRows_0 1 rfl rfl)
theorem dX1_replaceRows_4 : decode cX1_replaceRows 4 = .ok (.getfield 95, 3) := dk_180 0 95 (dk_at dksX1_replaceRows_0 4 rfl rfl)
theorem dX1_replaceRows_7 : decode cX1_replaceRows 7 = .ok (.astore_n 2, 1) := dk_77 (dk_at dksX1_replaceRows_0 7 rfl rfl)
theorem dX1_replaceRows_8 : decode cX1_replaceRows 8 = .ok (.aload_n 0, 1) := dk_42 (dk_at dksX1_replaceRows_0 8 rfl rfl)
theorem dX1_replaceRows_9 : decode cX1_replaceRows 9 = .ok (.invokevirtual 210, 3) := dk_182 0 210 (dk_at dksX1_replaceRows_0 9 rfl rfl)
theorem dX1_replaceRows_12 : decode cX1_replaceRows 12 = .ok (.aload_n 0, 1) := dk_42 (dk_at dksX1_replaceRows_0 12 rfl rfl)
theorem dX1_replaceRows_13 : decode cX1_replaceRows 13 = .ok (.getfield 12, 3) := dk_180 0 12 (dk_at dksX1_replaceRows_0 13 rfl rfl)
theorem dX1_replaceRows_16 : decode cX1_replaceRows 16 = .ok (.aload_n 1, 1) := dk_43 (dk_at dksX1_replaceRows_0 16 rfl rfl)
theorem dX1_replaceRows_17 : decode cX1_replaceRows 17 = .ok (.putfield 95, 3) := dk_181 0 95 (dk_at dksX1_replaceRows_0 17 rfl rfl)
theorem dX1_replaceRows_20 : decode cX1_replaceRows 20 = .ok (.aload_n 1, 1) := dk_43 (dk_at dksX1_replaceRows_0 20 rfl rfl)
theorem dX1_replaceRows_21 : decode cX1_replaceRows 21 = .ok (.aload_n 2, 1) := dk_44 (dk_at dksX1_replaceRows_0 21 rfl rfl)
theorem dX1_replaceRows_22 : decode cX1_replaceRows 22 = .ok (.invokevirtual 217, 3) := dk_182 0 217 (dk_at dksX1_replaceRows_1 0 rfl rfl)
theorem dX1_replaceRows_25 : decode cX1_replaceRows 25 = .ok (.ireturn, 1) := dk_172 (dk_at dksX1_replaceRows_1 3 rfl rfl)
abbrev cX1_weights : ByteArray := prog_1_method_51_code
def yX1_weights : MethodName := ⟨RX1, "weights", "(I)I"⟩
def dkwX1_weights_2 : List UInt8 := [167, 255, 224, 28, 172]
abbrev dktX1_weights_2 : List UInt8 := dkwX1_weights_2 ++ []
def dkwX1_weights_1 : List UInt8 := [185, 1, 70, 1, 0, 192, 0, 224, 58, 4, 25, 4, 182, 1, 73, 27, 160, 0, 6, 132, 2, 1]
abbrev dktX1_weights_1 : List UInt8 := dkwX1_weights_1 ++ dktX1_weights_2
def dkwX1_weights_0 : List UInt8 := [3, 61, 42, 180, 0, 12, 180, 0, 95, 182, 1, 61, 78, 45, 185, 1, 65, 1, 0, 153, 0, 29, 45]
abbrev dktX1_weights_0 : List UInt8 := dkwX1_weights_0 ++ dktX1_weights_1
theorem dksX1_weights_0 : cX1_weights.data.toList.drop 0 = dktX1_weights_0 := by decide +kernel
theorem dksX1_weights_1 : cX1_weights.data.toList.drop 23 = dktX1_weights_1 := dk_seg dksX1_weights_0 23 rfl rfl
theorem dksX1_weights_2 : cX1_weights.data.toList.drop 45 = dktX1_weights_2 := dk_seg dksX1_weights_1 22 rfl rfl
theorem dX1_weights_0 : decode cX1_weights 0 = .ok (.iconst 0, 1) := dk_3 (dk_at dksX1_weights_0 0 rfl rfl)
theorem dX1_weights_1 : decode cX1_weights 1 = .ok (.istore_n 2, 1) := dk_61 (dk_at dksX1_weights_0 1 rfl rfl)
theorem dX1_weights_2 : decode cX1_weights 2 = .ok (.aload_n 0, 1) := dk_42 (dk_at dksX1_weights_0 2 rfl rfl)
theorem dX1_weights_3 : decode cX1_weights 3 = .ok (.getfield 12, 3) := dk_180 0 12 (dk_at dksX1_weights_0 3 rfl rfl)
theorem dX1_weights_6 : decode cX1_weights 6 = .ok (.getfield 95, 3) := dk_180 0 95 (dk_at dksX1_weights_0 6 rfl rfl)
theorem dX1_weights_9 : decode cX1_weights 9 = .ok (.invokevirtual 317, 3) := dk_182 1 61 (dk_at dksX1_weights_0 9 rfl rfl)
theorem dX1_weights_12 : decode cX1_weights 12 = .ok (.astore_n 3, 1) := dk_78 (dk_at dksX1_weights_0 12 rfl rfl)
theorem dX1_weights_13 : decode cX1_weights 13 = .ok (.aload_n 3, 1) := dk_45 (dk_at dksX1_weights_0 13 rfl rfl)
theorem dX1_weights_14 : decode cX1_weights 14 = .ok (.invokeinterface 321 1, 5) := by decide +kernel
theorem dX1_weights_19 : decode cX1_weights 19 = .ok (.ifCond .eq 29, 3) := dk_153 0 29 (dk_at dksX1_weights_0 19 rfl rfl)
theorem dX1_weights_22 : decode cX1_weights 22 = .ok (.aload_n 3, 1) := dk_45 (dk_at dksX1_weights_0 22 rfl rfl)
theorem dX1_weights_23 : decode cX1_weights 23 = .ok (.invokeinterface 326 1, 5) := by decide +kernel
theorem dX1_weights_28 : decode cX1_weights 28 = .ok (.checkcast 224, 3) := dk_192 0 224 (dk_at dksX1_weights_1 5 rfl rfl)
theorem dX1_weights_31 : decode cX1_weights 31 = .ok (.astore 4, 2) := dk_58 4 (dk_at dksX1_weights_1 8 rfl rfl)
theorem dX1_weights_33 : decode cX1_weights 33 = .ok (.aload 4, 2) := dk_25 4 (dk_at dksX1_weights_1 10 rfl rfl)
theorem dX1_weights_35 : decode cX1_weights 35 = .ok (.invokevirtual 329, 3) := dk_182 1 73 (dk_at dksX1_weights_1 12 rfl rfl)
theorem dX1_weights_38 : decode cX1_weights 38 = .ok (.iload_n 1, 1) := dk_27 (dk_at dksX1_weights_1 15 rfl rfl)
theorem dX1_weights_39 : decode cX1_weights 39 = .ok (.if_icmp .ne 6, 3) := dk_160 0 6 (dk_at dksX1_weights_1 16 rfl rfl)
theorem dX1_weights_42 : decode cX1_weights 42 = .ok (.iinc 2 1, 3) := dk_132 2 1 (dk_at dksX1_weights_1 19 rfl rfl)
theorem dX1_weights_45 : decode cX1_weights 45 = .ok (.goto (-32), 3) := dk_167 255 224 (dk_at dksX1_weights_2 0 rfl rfl)
theorem dX1_weights_48 : decode cX1_weights 48 = .ok (.iload_n 2, 1) := dk_28 (dk_at dksX1_weights_2 3 rfl rfl)
theorem dX1_weights_49 : decode cX1_weights 49 = .ok (.ireturn, 1) := dk_172 (dk_at dksX1_weights_2 4 rfl rfl)
abbrev cX1_freeQubits : ByteArray := prog_1_method_60_code
def yX1_freeQubits : MethodName := ⟨RX1, "freeQubits", "()I"⟩
def dkwX1_freeQubits_1 : List UInt8 := [4, 29, 120, 184, 1, 98, 154, 0, 9, 28, 4, 29, 120, 128, 61, 132, 3, 1, 167, 255, 229, 28, 172]
abbrev dktX1_freeQubits_1 : List UInt8 := dkwX1_freeQubits_1 ++ []
def dkwX1_freeQubits_0 : List UInt8 := [42, 180, 0, 12, 180, 0, 95, 182, 1, 94, 76, 3, 61, 3, 62, 29, 42, 182, 0, 173, 162, 0, 25, 43]
abbrev dktX1_freeQubits_0 : List UInt8 := dkwX1_freeQubits_0 ++ dktX1_freeQubits_1
theorem dksX1_freeQubits_0 : cX1_freeQubits.data.toList.drop 0 = dktX1_freeQubits_0 := by decide +kernel
theorem dksX1_freeQubits_1 : cX1_freeQubits.data.toList.drop 24 = dktX1_freeQubits_1 := dk_seg dksX1_freeQubits_0 24 rfl rfl
theorem dX1_freeQubits_0 : decode cX1_freeQubits 0 = .ok (.aload_n 0, 1) := dk_42 (dk_at dksX1_freeQubits_0 0 rfl rfl)
theorem dX1_freeQubits_1 : decode cX1_freeQubits 1 = .ok (.getfield 12, 3) := dk_180 0 12 (dk_at dksX1_freeQubits_0 1 rfl rfl)
theorem dX1_freeQubits_4 : decode cX1_freeQubits 4 = .ok (.getfield 95, 3) := dk_180 0 95 (dk_at dksX1_freeQubits_0 4 rfl rfl)
theorem dX1_freeQubits_7 : decode cX1_freeQubits 7 = .ok (.invokevirtual 350, 3) := dk_182 1 94 (dk_at dksX1_freeQubits_0 7 rfl rfl)
theorem dX1_freeQubits_10 : decode cX1_freeQubits 10 = .ok (.astore_n 1, 1) := dk_76 (dk_at dksX1_freeQubits_0 10 rfl rfl)
theorem dX1_freeQubits_11 : decode cX1_freeQubits 11 = .ok (.iconst 0, 1) := dk_3 (dk_at dksX1_freeQubits_0 11 rfl rfl)
theorem dX1_freeQubits_12 : decode cX1_freeQubits 12 = .ok (.istore_n 2, 1) := dk_61 (dk_at dksX1_freeQubits_0 12 rfl rfl)
theorem dX1_freeQubits_13 : decode cX1_freeQubits 13 = .ok (.iconst 0, 1) := dk_3 (dk_at dksX1_freeQubits_0 13 rfl rfl)
theorem dX1_freeQubits_14 : decode cX1_freeQubits 14 = .ok (.istore_n 3, 1) := dk_62 (dk_at dksX1_freeQubits_0 14 rfl rfl)
theorem dX1_freeQubits_15 : decode cX1_freeQubits 15 = .ok (.iload_n 3, 1) := dk_29 (dk_at dksX1_freeQubits_0 15 rfl rfl)
theorem dX1_freeQubits_16 : decode cX1_freeQubits 16 = .ok (.aload_n 0, 1) := dk_42 (dk_at dksX1_freeQubits_0 16 rfl rfl)
theorem dX1_freeQubits_17 : decode cX1_freeQubits 17 = .ok (.invokevirtual 173, 3) := dk_182 0 173 (dk_at dksX1_freeQubits_0 17 rfl rfl)
theorem dX1_freeQubits_20 : decode cX1_freeQubits 20 = .ok (.if_icmp .ge 25, 3) := dk_162 0 25 (dk_at dksX1_freeQubits_0 20 rfl rfl)
theorem dX1_freeQubits_23 : decode cX1_freeQubits 23 = .ok (.aload_n 1, 1) := dk_43 (dk_at dksX1_freeQubits_0 23 rfl rfl)
theorem dX1_freeQubits_24 : decode cX1_freeQubits 24 = .ok (.iconst 1, 1) := dk_4 (dk_at dksX1_freeQubits_1 0 rfl rfl)
theorem dX1_freeQubits_25 : decode cX1_freeQubits 25 = .ok (.iload_n 3, 1) := dk_29 (dk_at dksX1_freeQubits_1 1 rfl rfl)
theorem dX1_freeQubits_26 : decode cX1_freeQubits 26 = .ok (.ishl, 1) := dk_120 (dk_at dksX1_freeQubits_1 2 rfl rfl)
theorem dX1_freeQubits_27 : decode cX1_freeQubits 27 = .ok (.invokestatic 354, 3) := dk_184 1 98 (dk_at dksX1_freeQubits_1 3 rfl rfl)
theorem dX1_freeQubits_30 : decode cX1_freeQubits 30 = .ok (.ifCond .ne 9, 3) := dk_154 0 9 (dk_at dksX1_freeQubits_1 6 rfl rfl)
theorem dX1_freeQubits_33 : decode cX1_freeQubits 33 = .ok (.iload_n 2, 1) := dk_28 (dk_at dksX1_freeQubits_1 9 rfl rfl)
theorem dX1_freeQubits_34 : decode cX1_freeQubits 34 = .ok (.iconst 1, 1) := dk_4 (dk_at dksX1_freeQubits_1 10 rfl rfl)
theorem dX1_freeQubits_35 : decode cX1_freeQubits 35 = .ok (.iload_n 3, 1) := dk_29 (dk_at dksX1_freeQubits_1 11 rfl rfl)
theorem dX1_freeQubits_36 : decode cX1_freeQubits 36 = .ok (.ishl, 1) := dk_120 (dk_at dksX1_freeQubits_1 12 rfl rfl)
theorem dX1_freeQubits_37 : decode cX1_freeQubits 37 = .ok (.ior, 1) := dk_128 (dk_at dksX1_freeQubits_1 13 rfl rfl)
theorem dX1_freeQubits_38 : decode cX1_freeQubits 38 = .ok (.istore_n 2, 1) := dk_61 (dk_at dksX1_freeQubits_1 14 rfl rfl)
theorem dX1_freeQubits_39 : decode cX1_freeQubits 39 = .ok (.iinc 3 1, 3) := dk_132 3 1 (dk_at dksX1_freeQubits_1 15 rfl rfl)
theorem dX1_freeQubits_42 : decode cX1_freeQubits 42 = .ok (.goto (-27), 3) := dk_167 255 229 (dk_at dksX1_freeQubits_1 18 rfl rfl)
theorem dX1_freeQubits_45 : decode cX1_freeQubits 45 = .ok (.iload_n 2, 1) := dk_28 (dk_at dksX1_freeQubits_1 21 rfl rfl)
theorem dX1_freeQubits_46 : decode cX1_freeQubits 46 = .ok (.ireturn, 1) := dk_172 (dk_at dksX1_freeQubits_1 22 rfl rfl)
abbrev cX1_entropyBy : ByteArray := prog_1_method_13_code
def yX1_entropyBy : MethodName := ⟨RX1, "entropyBy", "([II)I"⟩
def dkwX1_entropyBy_2 : List UInt8 := [184, 0, 92, 100, 172]
abbrev dktX1_entropyBy_2 : List UInt8 := dkwX1_entropyBy_2 ++ []
def dkwX1_entropyBy_1 : List UInt8 := [21, 6, 27, 2, 130, 126, 154, 0, 6, 132, 2, 1, 132, 5, 1, 167, 255, 228, 27, 184, 0, 70, 28]
abbrev dktX1_entropyBy_1 : List UInt8 := dkwX1_entropyBy_1 ++ dktX1_entropyBy_2
def dkwX1_entropyBy_0 : List UInt8 := [3, 61, 42, 78, 45, 190, 54, 4, 3, 54, 5, 21, 5, 21, 4, 162, 0, 27, 45, 21, 5, 46, 54, 6]
abbrev dktX1_entropyBy_0 : List UInt8 := dkwX1_entropyBy_0 ++ dktX1_entropyBy_1
theorem dksX1_entropyBy_0 : cX1_entropyBy.data.toList.drop 0 = dktX1_entropyBy_0 := by decide +kernel
theorem dksX1_entropyBy_1 : cX1_entropyBy.data.toList.drop 24 = dktX1_entropyBy_1 := dk_seg dksX1_entropyBy_0 24 rfl rfl
theorem dksX1_entropyBy_2 : cX1_entropyBy.data.toList.drop 47 = dktX1_entropyBy_2 := dk_seg dksX1_entropyBy_1 23 rfl rfl
theorem dX1_entropyBy_0 : decode cX1_entropyBy 0 = .ok (.iconst 0, 1) := dk_3 (dk_at dksX1_entropyBy_0 0 rfl rfl)
theorem dX1_entropyBy_1 : decode cX1_entropyBy 1 = .ok (.istore_n 2, 1) := dk_61 (dk_at dksX1_entropyBy_0 1 rfl rfl)
theorem dX1_entropyBy_2 : decode cX1_entropyBy 2 = .ok (.aload_n 0, 1) := dk_42 (dk_at dksX1_entropyBy_0 2 rfl rfl)
theorem dX1_entropyBy_3 : decode cX1_entropyBy 3 = .ok (.astore_n 3, 1) := dk_78 (dk_at dksX1_entropyBy_0 3 rfl rfl)
theorem dX1_entropyBy_4 : decode cX1_entropyBy 4 = .ok (.aload_n 3, 1) := dk_45 (dk_at dksX1_entropyBy_0 4 rfl rfl)
theorem dX1_entropyBy_5 : decode cX1_entropyBy 5 = .ok (.arraylength, 1) := dk_190 (dk_at dksX1_entropyBy_0 5 rfl rfl)
theorem dX1_entropyBy_6 : decode cX1_entropyBy 6 = .ok (.istore 4, 2) := dk_54 4 (dk_at dksX1_entropyBy_0 6 rfl rfl)
theorem dX1_entropyBy_8 : decode cX1_entropyBy 8 = .ok (.iconst 0, 1) := dk_3 (dk_at dksX1_entropyBy_0 8 rfl rfl)
theorem dX1_entropyBy_9 : decode cX1_entropyBy 9 = .ok (.istore 5, 2) := dk_54 5 (dk_at dksX1_entropyBy_0 9 rfl rfl)
theorem dX1_entropyBy_11 : decode cX1_entropyBy 11 = .ok (.iload 5, 2) := dk_21 5 (dk_at dksX1_entropyBy_0 11 rfl rfl)
theorem dX1_entropyBy_13 : decode cX1_entropyBy 13 = .ok (.iload 4, 2) := dk_21 4 (dk_at dksX1_entropyBy_0 13 rfl rfl)
theorem dX1_entropyBy_15 : decode cX1_entropyBy 15 = .ok (.if_icmp .ge 27, 3) := dk_162 0 27 (dk_at dksX1_entropyBy_0 15 rfl rfl)
theorem dX1_entropyBy_18 : decode cX1_entropyBy 18 = .ok (.aload_n 3, 1) := dk_45 (dk_at dksX1_entropyBy_0 18 rfl rfl)
theorem dX1_entropyBy_19 : decode cX1_entropyBy 19 = .ok (.iload 5, 2) := dk_21 5 (dk_at dksX1_entropyBy_0 19 rfl rfl)
theorem dX1_entropyBy_21 : decode cX1_entropyBy 21 = .ok (.iaload, 1) := dk_46 (dk_at dksX1_entropyBy_0 21 rfl rfl)
theorem dX1_entropyBy_22 : decode cX1_entropyBy 22 = .ok (.istore 6, 2) := dk_54 6 (dk_at dksX1_entropyBy_0 22 rfl rfl)
theorem dX1_entropyBy_24 : decode cX1_entropyBy 24 = .ok (.iload 6, 2) := dk_21 6 (dk_at dksX1_entropyBy_1 0 rfl rfl)
theorem dX1_entropyBy_26 : decode cX1_entropyBy 26 = .ok (.iload_n 1, 1) := dk_27 (dk_at dksX1_entropyBy_1 2 rfl rfl)
theorem dX1_entropyBy_27 : decode cX1_entropyBy 27 = .ok (.iconst (-1), 1) := dk_2 (dk_at dksX1_entropyBy_1 3 rfl rfl)
theorem dX1_entropyBy_28 : decode cX1_entropyBy 28 = .ok (.ixor, 1) := dk_130 (dk_at dksX1_entropyBy_1 4 rfl rfl)
theorem dX1_entropyBy_29 : decode cX1_entropyBy 29 = .ok (.iand, 1) := dk_126 (dk_at dksX1_entropyBy_1 5 rfl rfl)
theorem dX1_entropyBy_30 : decode cX1_entropyBy 30 = .ok (.ifCond .ne 6, 3) := dk_154 0 6 (dk_at dksX1_entropyBy_1 6 rfl rfl)
theorem dX1_entropyBy_33 : decode cX1_entropyBy 33 = .ok (.iinc 2 1, 3) := dk_132 2 1 (dk_at dksX1_entropyBy_1 9 rfl rfl)
theorem dX1_entropyBy_36 : decode cX1_entropyBy 36 = .ok (.iinc 5 1, 3) := dk_132 5 1 (dk_at dksX1_entropyBy_1 12 rfl rfl)
theorem dX1_entropyBy_39 : decode cX1_entropyBy 39 = .ok (.goto (-28), 3) := dk_167 255 228 (dk_at dksX1_entropyBy_1 15 rfl rfl)
theorem dX1_entropyBy_42 : decode cX1_entropyBy 42 = .ok (.iload_n 1, 1) := dk_27 (dk_at dksX1_entropyBy_1 18 rfl rfl)
theorem dX1_entropyBy_43 : decode cX1_entropyBy 43 = .ok (.invokestatic 70, 3) := dk_184 0 70 (dk_at dksX1_entropyBy_1 19 rfl rfl)
theorem dX1_entropyBy_46 : decode cX1_entropyBy 46 = .ok (.iload_n 2, 1) := dk_28 (dk_at dksX1_entropyBy_1 22 rfl rfl)
theorem dX1_entropyBy_47 : decode cX1_entropyBy 47 = .ok (.invokestatic 92, 3) := dk_184 0 92 (dk_at dksX1_entropyBy_2 0 rfl rfl)
theorem dX1_entropyBy_50 : decode cX1_entropyBy 50 = .ok (.isub, 1) := dk_100 (dk_at dksX1_entropyBy_2 3 rfl rfl)
theorem dX1_entropyBy_51 : decode cX1_entropyBy 51 = .ok (.ireturn, 1) := dk_172 (dk_at dksX1_entropyBy_2 4 rfl rfl)
abbrev cX1_spread : ByteArray := prog_1_method_65_code
def yX1_spread : MethodName := ⟨RX1, "spread", "()I"⟩
def dkwX1_spread_2 : List UInt8 := [167, 255, 230, 27, 172]
abbrev dktX1_spread_2 : List UInt8 := dkwX1_spread_2 ++ []
def dkwX1_spread_1 : List UInt8 := [29, 162, 0, 26, 44, 21, 4, 50, 58, 5, 25, 5, 180, 1, 24, 153, 0, 6, 132, 1, 1, 132, 4, 1]
abbrev dktX1_spread_1 : List UInt8 := dkwX1_spread_1 ++ dktX1_spread_2
def dkwX1_spread_0 : List UInt8 := [3, 60, 42, 180, 0, 12, 180, 0, 95, 182, 1, 8, 180, 0, 99, 77, 44, 190, 62, 3, 54, 4, 21, 4]
abbrev dktX1_spread_0 : List UInt8 := dkwX1_spread_0 ++ dktX1_spread_1
theorem dksX1_spread_0 : cX1_spread.data.toList.drop 0 = dktX1_spread_0 := by decide +kernel
theorem dksX1_spread_1 : cX1_spread.data.toList.drop 24 = dktX1_spread_1 := dk_seg dksX1_spread_0 24 rfl rfl
theorem dksX1_spread_2 : cX1_spread.data.toList.drop 48 = dktX1_spread_2 := dk_seg dksX1_spread_1 24 rfl rfl
theorem dX1_spread_0 : decode cX1_spread 0 = .ok (.iconst 0, 1) := dk_3 (dk_at dksX1_spread_0 0 rfl rfl)
theorem dX1_spread_1 : decode cX1_spread 1 = .ok (.istore_n 1, 1) := dk_60 (dk_at dksX1_spread_0 1 rfl rfl)
theorem dX1_spread_2 : decode cX1_spread 2 = .ok (.aload_n 0, 1) := dk_42 (dk_at dksX1_spread_0 2 rfl rfl)
theorem dX1_spread_3 : decode cX1_spread 3 = .ok (.getfield 12, 3) := dk_180 0 12 (dk_at dksX1_spread_0 3 rfl rfl)
theorem dX1_spread_6 : decode cX1_spread 6 = .ok (.getfield 95, 3) := dk_180 0 95 (dk_at dksX1_spread_0 6 rfl rfl)
theorem dX1_spread_9 : decode cX1_spread 9 = .ok (.invokevirtual 264, 3) := dk_182 1 8 (dk_at dksX1_spread_0 9 rfl rfl)
theorem dX1_spread_12 : decode cX1_spread 12 = .ok (.getfield 99, 3) := dk_180 0 99 (dk_at dksX1_spread_0 12 rfl rfl)
theorem dX1_spread_15 : decode cX1_spread 15 = .ok (.astore_n 2, 1) := dk_77 (dk_at dksX1_spread_0 15 rfl rfl)
theorem dX1_spread_16 : decode cX1_spread 16 = .ok (.aload_n 2, 1) := dk_44 (dk_at dksX1_spread_0 16 rfl rfl)
theorem dX1_spread_17 : decode cX1_spread 17 = .ok (.arraylength, 1) := dk_190 (dk_at dksX1_spread_0 17 rfl rfl)
theorem dX1_spread_18 : decode cX1_spread 18 = .ok (.istore_n 3, 1) := dk_62 (dk_at dksX1_spread_0 18 rfl rfl)
theorem dX1_spread_19 : decode cX1_spread 19 = .ok (.iconst 0, 1) := dk_3 (dk_at dksX1_spread_0 19 rfl rfl)
theorem dX1_spread_20 : decode cX1_spread 20 = .ok (.istore 4, 2) := dk_54 4 (dk_at dksX1_spread_0 20 rfl rfl)
theorem dX1_spread_22 : decode cX1_spread 22 = .ok (.iload 4, 2) := dk_21 4 (dk_at dksX1_spread_0 22 rfl rfl)
theorem dX1_spread_24 : decode cX1_spread 24 = .ok (.iload_n 3, 1) := dk_29 (dk_at dksX1_spread_1 0 rfl rfl)
theorem dX1_spread_25 : decode cX1_spread 25 = .ok (.if_icmp .ge 26, 3) := dk_162 0 26 (dk_at dksX1_spread_1 1 rfl rfl)
theorem dX1_spread_28 : decode cX1_spread 28 = .ok (.aload_n 2, 1) := dk_44 (dk_at dksX1_spread_1 4 rfl rfl)
theorem dX1_spread_29 : decode cX1_spread 29 = .ok (.iload 4, 2) := dk_21 4 (dk_at dksX1_spread_1 5 rfl rfl)
theorem dX1_spread_31 : decode cX1_spread 31 = .ok (.aaload, 1) := dk_50 (dk_at dksX1_spread_1 7 rfl rfl)
theorem dX1_spread_32 : decode cX1_spread 32 = .ok (.astore 5, 2) := dk_58 5 (dk_at dksX1_spread_1 8 rfl rfl)
theorem dX1_spread_34 : decode cX1_spread 34 = .ok (.aload 5, 2) := dk_25 5 (dk_at dksX1_spread_1 10 rfl rfl)
theorem dX1_spread_36 : decode cX1_spread 36 = .ok (.getfield 280, 3) := dk_180 1 24 (dk_at dksX1_spread_1 12 rfl rfl)
theorem dX1_spread_39 : decode cX1_spread 39 = .ok (.ifCond .eq 6, 3) := dk_153 0 6 (dk_at dksX1_spread_1 15 rfl rfl)
theorem dX1_spread_42 : decode cX1_spread 42 = .ok (.iinc 1 1, 3) := dk_132 1 1 (dk_at dksX1_spread_1 18 rfl rfl)
theorem dX1_spread_45 : decode cX1_spread 45 = .ok (.iinc 4 1, 3) := dk_132 4 1 (dk_at dksX1_spread_1 21 rfl rfl)
theorem dX1_spread_48 : decode cX1_spread 48 = .ok (.goto (-26), 3) := dk_167 255 230 (dk_at dksX1_spread_2 0 rfl rfl)
theorem dX1_spread_51 : decode cX1_spread 51 = .ok (.iload_n 1, 1) := dk_27 (dk_at dksX1_spread_2 3 rfl rfl)
theorem dX1_spread_52 : decode cX1_spread 52 = .ok (.ireturn, 1) := dk_172 (dk_at dksX1_spread_2 4 rfl rfl)
abbrev cX1_possible : ByteArray := prog_1_method_68_code
def yX1_possible : MethodName := ⟨RX1, "possible", "(I)I"⟩
def dkwX1_possible_2 : List UInt8 := [21, 4, 172, 132, 3, 255, 132, 4, 1, 167, 255, 216, 2, 172]
abbrev dktX1_possible_2 : List UInt8 := dkwX1_possible_2 ++ []
def dkwX1_possible_1 : List UInt8 := [162, 0, 35, 27, 155, 0, 31, 44, 21, 4, 184, 1, 105, 154, 0, 6, 167, 0, 13, 29, 154, 0, 6]
abbrev dktX1_possible_1 : List UInt8 := dkwX1_possible_1 ++ dktX1_possible_2
def dkwX1_possible_0 : List UInt8 := [42, 180, 0, 12, 180, 0, 95, 182, 1, 8, 77, 27, 62, 3, 54, 4, 21, 4, 4, 42, 182, 0, 173, 120]
abbrev dktX1_possible_0 : List UInt8 := dkwX1_possible_0 ++ dktX1_possible_1
theorem dksX1_possible_0 : cX1_possible.data.toList.drop 0 = dktX1_possible_0 := by decide +kernel
theorem dksX1_possible_1 : cX1_possible.data.toList.drop 24 = dktX1_possible_1 := dk_seg dksX1_possible_0 24 rfl rfl
theorem dksX1_possible_2 : cX1_possible.data.toList.drop 47 = dktX1_possible_2 := dk_seg dksX1_possible_1 23 rfl rfl
theorem dX1_possible_0 : decode cX1_possible 0 = .ok (.aload_n 0, 1) := dk_42 (dk_at dksX1_possible_0 0 rfl rfl)
theorem dX1_possible_1 : decode cX1_possible 1 = .ok (.getfield 12, 3) := dk_180 0 12 (dk_at dksX1_possible_0 1 rfl rfl)
theorem dX1_possible_4 : decode cX1_possible 4 = .ok (.getfield 95, 3) := dk_180 0 95 (dk_at dksX1_possible_0 4 rfl rfl)
theorem dX1_possible_7 : decode cX1_possible 7 = .ok (.invokevirtual 264, 3) := dk_182 1 8 (dk_at dksX1_possible_0 7 rfl rfl)
theorem dX1_possible_10 : decode cX1_possible 10 = .ok (.astore_n 2, 1) := dk_77 (dk_at dksX1_possible_0 10 rfl rfl)
theorem dX1_possible_11 : decode cX1_possible 11 = .ok (.iload_n 1, 1) := dk_27 (dk_at dksX1_possible_0 11 rfl rfl)
theorem dX1_possible_12 : decode cX1_possible 12 = .ok (.istore_n 3, 1) := dk_62 (dk_at dksX1_possible_0 12 rfl rfl)
theorem dX1_possible_13 : decode cX1_possible 13 = .ok (.iconst 0, 1) := dk_3 (dk_at dksX1_possible_0 13 rfl rfl)
theorem dX1_possible_14 : decode cX1_possible 14 = .ok (.istore 4, 2) := dk_54 4 (dk_at dksX1_possible_0 14 rfl rfl)
theorem dX1_possible_16 : decode cX1_possible 16 = .ok (.iload 4, 2) := dk_21 4 (dk_at dksX1_possible_0 16 rfl rfl)
theorem dX1_possible_18 : decode cX1_possible 18 = .ok (.iconst 1, 1) := dk_4 (dk_at dksX1_possible_0 18 rfl rfl)
theorem dX1_possible_19 : decode cX1_possible 19 = .ok (.aload_n 0, 1) := dk_42 (dk_at dksX1_possible_0 19 rfl rfl)
theorem dX1_possible_20 : decode cX1_possible 20 = .ok (.invokevirtual 173, 3) := dk_182 0 173 (dk_at dksX1_possible_0 20 rfl rfl)
theorem dX1_possible_23 : decode cX1_possible 23 = .ok (.ishl, 1) := dk_120 (dk_at dksX1_possible_0 23 rfl rfl)
theorem dX1_possible_24 : decode cX1_possible 24 = .ok (.if_icmp .ge 35, 3) := dk_162 0 35 (dk_at dksX1_possible_1 0 rfl rfl)
theorem dX1_possible_27 : decode cX1_possible 27 = .ok (.iload_n 1, 1) := dk_27 (dk_at dksX1_possible_1 3 rfl rfl)
theorem dX1_possible_28 : decode cX1_possible 28 = .ok (.ifCond .lt 31, 3) := dk_155 0 31 (dk_at dksX1_possible_1 4 rfl rfl)
theorem dX1_possible_31 : decode cX1_possible 31 = .ok (.aload_n 2, 1) := dk_44 (dk_at dksX1_possible_1 7 rfl rfl)
theorem dX1_possible_32 : decode cX1_possible 32 = .ok (.iload 4, 2) := dk_21 4 (dk_at dksX1_possible_1 8 rfl rfl)
theorem dX1_possible_34 : decode cX1_possible 34 = .ok (.invokestatic 361, 3) := dk_184 1 105 (dk_at dksX1_possible_1 10 rfl rfl)
theorem dX1_possible_37 : decode cX1_possible 37 = .ok (.ifCond .ne 6, 3) := dk_154 0 6 (dk_at dksX1_possible_1 13 rfl rfl)
theorem dX1_possible_40 : decode cX1_possible 40 = .ok (.goto 13, 3) := dk_167 0 13 (dk_at dksX1_possible_1 16 rfl rfl)
theorem dX1_possible_43 : decode cX1_possible 43 = .ok (.iload_n 3, 1) := dk_29 (dk_at dksX1_possible_1 19 rfl rfl)
theorem dX1_possible_44 : decode cX1_possible 44 = .ok (.ifCond .ne 6, 3) := dk_154 0 6 (dk_at dksX1_possible_1 20 rfl rfl)
theorem dX1_possible_47 : decode cX1_possible 47 = .ok (.iload 4, 2) := dk_21 4 (dk_at dksX1_possible_2 0 rfl rfl)
theorem dX1_possible_49 : decode cX1_possible 49 = .ok (.ireturn, 1) := dk_172 (dk_at dksX1_possible_2 2 rfl rfl)
theorem dX1_possible_50 : decode cX1_possible 50 = .ok (.iinc 3 (-1), 3) := dk_132 3 255 (dk_at dksX1_possible_2 3 rfl rfl)
theorem dX1_possible_53 : decode cX1_possible 53 = .ok (.iinc 4 1, 3) := dk_132 4 1 (dk_at dksX1_possible_2 6 rfl rfl)
theorem dX1_possible_56 : decode cX1_possible 56 = .ok (.goto (-40), 3) := dk_167 255 216 (dk_at dksX1_possible_2 9 rfl rfl)
theorem dX1_possible_59 : decode cX1_possible 59 = .ok (.iconst (-1), 1) := dk_2 (dk_at dksX1_possible_2 12 rfl rfl)
theorem dX1_possible_60 : decode cX1_possible 60 = .ok (.ireturn, 1) := dk_172 (dk_at dksX1_possible_2 13 rfl rfl)
abbrev cX1_agrees : ByteArray := prog_1_method_66_code
def yX1_agrees : MethodName := ⟨RX1, "agrees", "(LStringTableau$Tableau;I)Z"⟩
def dkwX1_agrees_2 : List UInt8 := [4, 167, 0, 4, 3, 25, 5, 180, 1, 102, 159, 0, 5, 3, 172, 132, 4, 1, 167, 255, 202, 4, 172]
abbrev dktX1_agrees_2 : List UInt8 := dkwX1_agrees_2 ++ []
def dkwX1_agrees_1 : List UInt8 := [25, 5, 180, 1, 24, 154, 0, 34, 25, 5, 180, 1, 27, 27, 126, 184, 0, 70, 5, 112, 4, 160, 0, 7]
abbrev dktX1_agrees_1 : List UInt8 := dkwX1_agrees_1 ++ dktX1_agrees_2
def dkwX1_agrees_0 : List UInt8 := [42, 180, 0, 99, 77, 44, 190, 62, 3, 54, 4, 21, 4, 29, 162, 0, 54, 44, 21, 4, 50, 58, 5]
abbrev dktX1_agrees_0 : List UInt8 := dkwX1_agrees_0 ++ dktX1_agrees_1
theorem dksX1_agrees_0 : cX1_agrees.data.toList.drop 0 = dktX1_agrees_0 := by decide +kernel
theorem dksX1_agrees_1 : cX1_agrees.data.toList.drop 23 = dktX1_agrees_1 := dk_seg dksX1_agrees_0 23 rfl rfl
theorem dksX1_agrees_2 : cX1_agrees.data.toList.drop 47 = dktX1_agrees_2 := dk_seg dksX1_agrees_1 24 rfl rfl
theorem dX1_agrees_0 : decode cX1_agrees 0 = .ok (.aload_n 0, 1) := dk_42 (dk_at dksX1_agrees_0 0 rfl rfl)
theorem dX1_agrees_1 : decode cX1_agrees 1 = .ok (.getfield 99, 3) := dk_180 0 99 (dk_at dksX1_agrees_0 1 rfl rfl)
theorem dX1_agrees_4 : decode cX1_agrees 4 = .ok (.astore_n 2, 1) := dk_77 (dk_at dksX1_agrees_0 4 rfl rfl)
theorem dX1_agrees_5 : decode cX1_agrees 5 = .ok (.aload_n 2, 1) := dk_44 (dk_at dksX1_agrees_0 5 rfl rfl)
theorem dX1_agrees_6 : decode cX1_agrees 6 = .ok (.arraylength, 1) := dk_190 (dk_at dksX1_agrees_0 6 rfl rfl)
theorem dX1_agrees_7 : decode cX1_agrees 7 = .ok (.istore_n 3, 1) := dk_62 (dk_at dksX1_agrees_0 7 rfl rfl)
theorem dX1_agrees_8 : decode cX1_agrees 8 = .ok (.iconst 0, 1) := dk_3 (dk_at dksX1_agrees_0 8 rfl rfl)
theorem dX1_agrees_9 : decode cX1_agrees 9 = .ok (.istore 4, 2) := dk_54 4 (dk_at dksX1_agrees_0 9 rfl rfl)
theorem dX1_agrees_11 : decode cX1_agrees 11 = .ok (.iload 4, 2) := dk_21 4 (dk_at dksX1_agrees_0 11 rfl rfl)
theorem dX1_agrees_13 : decode cX1_agrees 13 = .ok (.iload_n 3, 1) := dk_29 (dk_at dksX1_agrees_0 13 rfl rfl)
theorem dX1_agrees_14 : decode cX1_agrees 14 = .ok (.if_icmp .ge 54, 3) := dk_162 0 54 (dk_at dksX1_agrees_0 14 rfl rfl)
theorem dX1_agrees_17 : decode cX1_agrees 17 = .ok (.aload_n 2, 1) := dk_44 (dk_at dksX1_agrees_0 17 rfl rfl)
theorem dX1_agrees_18 : decode cX1_agrees 18 = .ok (.iload 4, 2) := dk_21 4 (dk_at dksX1_agrees_0 18 rfl rfl)
theorem dX1_agrees_20 : decode cX1_agrees 20 = .ok (.aaload, 1) := dk_50 (dk_at dksX1_agrees_0 20 rfl rfl)
theorem dX1_agrees_21 : decode cX1_agrees 21 = .ok (.astore 5, 2) := dk_58 5 (dk_at dksX1_agrees_0 21 rfl rfl)
theorem dX1_agrees_23 : decode cX1_agrees 23 = .ok (.aload 5, 2) := dk_25 5 (dk_at dksX1_agrees_1 0 rfl rfl)
theorem dX1_agrees_25 : decode cX1_agrees 25 = .ok (.getfield 280, 3) := dk_180 1 24 (dk_at dksX1_agrees_1 2 rfl rfl)
theorem dX1_agrees_28 : decode cX1_agrees 28 = .ok (.ifCond .ne 34, 3) := dk_154 0 34 (dk_at dksX1_agrees_1 5 rfl rfl)
theorem dX1_agrees_31 : decode cX1_agrees 31 = .ok (.aload 5, 2) := dk_25 5 (dk_at dksX1_agrees_1 8 rfl rfl)
theorem dX1_agrees_33 : decode cX1_agrees 33 = .ok (.getfield 283, 3) := dk_180 1 27 (dk_at dksX1_agrees_1 10 rfl rfl)
theorem dX1_agrees_36 : decode cX1_agrees 36 = .ok (.iload_n 1, 1) := dk_27 (dk_at dksX1_agrees_1 13 rfl rfl)
theorem dX1_agrees_37 : decode cX1_agrees 37 = .ok (.iand, 1) := dk_126 (dk_at dksX1_agrees_1 14 rfl rfl)
theorem dX1_agrees_38 : decode cX1_agrees 38 = .ok (.invokestatic 70, 3) := dk_184 0 70 (dk_at dksX1_agrees_1 15 rfl rfl)
theorem dX1_agrees_41 : decode cX1_agrees 41 = .ok (.iconst 2, 1) := dk_5 (dk_at dksX1_agrees_1 18 rfl rfl)
theorem dX1_agrees_42 : decode cX1_agrees 42 = .ok (.irem, 1) := dk_112 (dk_at dksX1_agrees_1 19 rfl rfl)
theorem dX1_agrees_43 : decode cX1_agrees 43 = .ok (.iconst 1, 1) := dk_4 (dk_at dksX1_agrees_1 20 rfl rfl)
theorem dX1_agrees_44 : decode cX1_agrees 44 = .ok (.if_icmp .ne 7, 3) := dk_160 0 7 (dk_at dksX1_agrees_1 21 rfl rfl)
theorem dX1_agrees_47 : decode cX1_agrees 47 = .ok (.iconst 1, 1) := dk_4 (dk_at dksX1_agrees_2 0 rfl rfl)
theorem dX1_agrees_48 : decode cX1_agrees 48 = .ok (.goto 4, 3) := dk_167 0 4 (dk_at dksX1_agrees_2 1 rfl rfl)
theorem dX1_agrees_51 : decode cX1_agrees 51 = .ok (.iconst 0, 1) := dk_3 (dk_at dksX1_agrees_2 4 rfl rfl)
theorem dX1_agrees_52 : decode cX1_agrees 52 = .ok (.aload 5, 2) := dk_25 5 (dk_at dksX1_agrees_2 5 rfl rfl)
theorem dX1_agrees_54 : decode cX1_agrees 54 = .ok (.getfield 358, 3) := dk_180 1 102 (dk_at dksX1_agrees_2 7 rfl rfl)
theorem dX1_agrees_57 : decode cX1_agrees 57 = .ok (.if_icmp .eq 5, 3) := dk_159 0 5 (dk_at dksX1_agrees_2 10 rfl rfl)
theorem dX1_agrees_60 : decode cX1_agrees 60 = .ok (.iconst 0, 1) := dk_3 (dk_at dksX1_agrees_2 13 rfl rfl)
theorem dX1_agrees_61 : decode cX1_agrees 61 = .ok (.ireturn, 1) := dk_172 (dk_at dksX1_agrees_2 14 rfl rfl)
theorem dX1_agrees_62 : decode cX1_agrees 62 = .ok (.iinc 4 1, 3) := dk_132 4 1 (dk_at dksX1_agrees_2 15 rfl rfl)
theorem dX1_agrees_65 : decode cX1_agrees 65 = .ok (.goto (-54), 3) := dk_167 255 202 (dk_at dksX1_agrees_2 18 rfl rfl)
theorem dX1_agrees_68 : decode cX1_agrees 68 = .ok (.iconst 1, 1) := dk_4 (dk_at dksX1_agrees_2 21 rfl rfl)
theorem dX1_agrees_69 : decode cX1_agrees 69 = .ok (.ireturn, 1) := dk_172 (dk_at dksX1_agrees_2 22 rfl rfl)
abbrev cX1_print : ByteArray := prog_1_method_76_code
def yX1_print : MethodName := ⟨RX1, "print", "(Z)I"⟩
def dkwX1_print_3 : List UInt8 := [182, 1, 150, 132, 5, 1, 167, 255, 227, 42, 180, 0, 49, 182, 1, 154, 172]
abbrev dktX1_print_3 : List UInt8 := dkwX1_print_3 ++ []
def dkwX1_print_2 : List UInt8 := [21, 5, 21, 4, 162, 0, 28, 45, 21, 5, 50, 58, 6, 25, 6, 42, 180, 0, 49, 42, 182, 0, 173]
abbrev dktX1_print_2 : List UInt8 := dkwX1_print_2 ++ dktX1_print_3
def dkwX1_print_1 : List UInt8 := [167, 0, 10, 42, 180, 0, 12, 180, 0, 95, 77, 44, 180, 0, 99, 78, 45, 190, 54, 4, 3, 54, 5]
abbrev dktX1_print_1 : List UInt8 := dkwX1_print_1 ++ dktX1_print_2
def dkwX1_print_0 : List UInt8 := [42, 180, 0, 49, 3, 182, 1, 147, 27, 153, 0, 16, 42, 180, 0, 12, 180, 0, 95, 182, 1, 8]
abbrev dktX1_print_0 : List UInt8 := dkwX1_print_0 ++ dktX1_print_1
theorem dksX1_print_0 : cX1_print.data.toList.drop 0 = dktX1_print_0 := by decide +kernel
theorem dksX1_print_1 : cX1_print.data.toList.drop 22 = dktX1_print_1 := dk_seg dksX1_print_0 22 rfl rfl
theorem dksX1_print_2 : cX1_print.data.toList.drop 45 = dktX1_print_2 := dk_seg dksX1_print_1 23 rfl rfl
theorem dksX1_print_3 : cX1_print.data.toList.drop 68 = dktX1_print_3 := dk_seg dksX1_print_2 23 rfl rfl
theorem dX1_print_0 : decode cX1_print 0 = .ok (.aload_n 0, 1) := dk_42 (dk_at dksX1_print_0 0 rfl rfl)
theorem dX1_print_1 : decode cX1_print 1 = .ok (.getfield 49, 3) := dk_180 0 49 (dk_at dksX1_print_0 1 rfl rfl)
theorem dX1_print_4 : decode cX1_print 4 = .ok (.iconst 0, 1) := dk_3 (dk_at dksX1_print_0 4 rfl rfl)
theorem dX1_print_5 : decode cX1_print 5 = .ok (.invokevirtual 403, 3) := dk_182 1 147 (dk_at dksX1_print_0 5 rfl rfl)
theorem dX1_print_8 : decode cX1_print 8 = .ok (.iload_n 1, 1) := dk_27 (dk_at dksX1_print_0 8 rfl rfl)
theorem dX1_print_9 : decode cX1_print 9 = .ok (.ifCond .eq 16, 3) := dk_153 0 16 (dk_at dksX1_print_0 9 rfl rfl)
theorem dX1_print_12 : decode cX1_print 12 = .ok (.aload_n 0, 1) := dk_42 (dk_at dksX1_print_0 12 rfl rfl)
theorem dX1_print_13 : decode cX1_print 13 = .ok (.getfield 12, 3) := dk_180 0 12 (dk_at dksX1_print_0 13 rfl rfl)
theorem dX1_print_16 : decode cX1_print 16 = .ok (.getfield 95, 3) := dk_180 0 95 (dk_at dksX1_print_0 16 rfl rfl)
theorem dX1_print_19 : decode cX1_print 19 = .ok (.invokevirtual 264, 3) := dk_182 1 8 (dk_at dksX1_print_0 19 rfl rfl)
theorem dX1_print_22 : decode cX1_print 22 = .ok (.goto 10, 3) := dk_167 0 10 (dk_at dksX1_print_1 0 rfl rfl)
theorem dX1_print_25 : decode cX1_print 25 = .ok (.aload_n 0, 1) := dk_42 (dk_at dksX1_print_1 3 rfl rfl)
theorem dX1_print_26 : decode cX1_print 26 = .ok (.getfield 12, 3) := dk_180 0 12 (dk_at dksX1_print_1 4 rfl rfl)
theorem dX1_print_29 : decode cX1_print 29 = .ok (.getfield 95, 3) := dk_180 0 95 (dk_at dksX1_print_1 7 rfl rfl)
theorem dX1_print_32 : decode cX1_print 32 = .ok (.astore_n 2, 1) := dk_77 (dk_at dksX1_print_1 10 rfl rfl)
theorem dX1_print_33 : decode cX1_print 33 = .ok (.aload_n 2, 1) := dk_44 (dk_at dksX1_print_1 11 rfl rfl)
theorem dX1_print_34 : decode cX1_print 34 = .ok (.getfield 99, 3) := dk_180 0 99 (dk_at dksX1_print_1 12 rfl rfl)
theorem dX1_print_37 : decode cX1_print 37 = .ok (.astore_n 3, 1) := dk_78 (dk_at dksX1_print_1 15 rfl rfl)
theorem dX1_print_38 : decode cX1_print 38 = .ok (.aload_n 3, 1) := dk_45 (dk_at dksX1_print_1 16 rfl rfl)
theorem dX1_print_39 : decode cX1_print 39 = .ok (.arraylength, 1) := dk_190 (dk_at dksX1_print_1 17 rfl rfl)
theorem dX1_print_40 : decode cX1_print 40 = .ok (.istore 4, 2) := dk_54 4 (dk_at dksX1_print_1 18 rfl rfl)
theorem dX1_print_42 : decode cX1_print 42 = .ok (.iconst 0, 1) := dk_3 (dk_at dksX1_print_1 20 rfl rfl)
theorem dX1_print_43 : decode cX1_print 43 = .ok (.istore 5, 2) := dk_54 5 (dk_at dksX1_print_1 21 rfl rfl)
theorem dX1_print_45 : decode cX1_print 45 = .ok (.iload 5, 2) := dk_21 5 (dk_at dksX1_print_2 0 rfl rfl)
theorem dX1_print_47 : decode cX1_print 47 = .ok (.iload 4, 2) := dk_21 4 (dk_at dksX1_print_2 2 rfl rfl)
theorem dX1_print_49 : decode cX1_print 49 = .ok (.if_icmp .ge 28, 3) := dk_162 0 28 (dk_at dksX1_print_2 4 rfl rfl)
theorem dX1_print_52 : decode cX1_print 52 = .ok (.aload_n 3, 1) := dk_45 (dk_at dksX1_print_2 7 rfl rfl)
theorem dX1_print_53 : decode cX1_print 53 = .ok (.iload 5, 2) := dk_21 5 (dk_at dksX1_print_2 8 rfl rfl)
theorem dX1_print_55 : decode cX1_print 55 = .ok (.aaload, 1) := dk_50 (dk_at dksX1_print_2 10 rfl rfl)
theorem dX1_print_56 : decode cX1_print 56 = .ok (.astore 6, 2) := dk_58 6 (dk_at dksX1_print_2 11 rfl rfl)
theorem dX1_print_58 : decode cX1_print 58 = .ok (.aload 6, 2) := dk_25 6 (dk_at dksX1_print_2 13 rfl rfl)
theorem dX1_print_60 : decode cX1_print 60 = .ok (.aload_n 0, 1) := dk_42 (dk_at dksX1_print_2 15 rfl rfl)
theorem dX1_print_61 : decode cX1_print 61 = .ok (.getfield 49, 3) := dk_180 0 49 (dk_at dksX1_print_2 16 rfl rfl)
theorem dX1_print_64 : decode cX1_print 64 = .ok (.aload_n 0, 1) := dk_42 (dk_at dksX1_print_2 19 rfl rfl)
theorem dX1_print_65 : decode cX1_print 65 = .ok (.invokevirtual 173, 3) := dk_182 0 173 (dk_at dksX1_print_2 20 rfl rfl)
theorem dX1_print_68 : decode cX1_print 68 = .ok (.invokevirtual 406, 3) := dk_182 1 150 (dk_at dksX1_print_3 0 rfl rfl)
theorem dX1_print_71 : decode cX1_print 71 = .ok (.iinc 5 1, 3) := dk_132 5 1 (dk_at dksX1_print_3 3 rfl rfl)
theorem dX1_print_74 : decode cX1_print 74 = .ok (.goto (-29), 3) := dk_167 255 227 (dk_at dksX1_print_3 6 rfl rfl)
theorem dX1_print_77 : decode cX1_print 77 = .ok (.aload_n 0, 1) := dk_42 (dk_at dksX1_print_3 9 rfl rfl)
theorem dX1_print_78 : decode cX1_print 78 = .ok (.getfield 49, 3) := dk_180 0 49 (dk_at dksX1_print_3 10 rfl rfl)
theorem dX1_print_81 : decode cX1_print 81 = .ok (.invokevirtual 410, 3) := dk_182 1 154 (dk_at dksX1_print_3 13 rfl rfl)
theorem dX1_print_84 : decode cX1_print 84 = .ok (.ireturn, 1) := dk_172 (dk_at dksX1_print_3 16 rfl rfl)
abbrev cX1_printProgram : ByteArray := prog_1_method_79_code
def yX1_printProgram : MethodName := ⟨RX1, "printProgram", "()I"⟩
def dkwX1_printProgram_2 : List UInt8 := [182, 1, 181, 87, 132, 1, 1, 167, 255, 213, 42, 180, 0, 49, 182, 1, 154, 172]
abbrev dktX1_printProgram_2 : List UInt8 := dkwX1_printProgram_2 ++ []
def dkwX1_printProgram_1 : List UInt8 := [42, 180, 0, 21, 27, 185, 0, 163, 2, 0, 192, 0, 192, 182, 1, 196, 42, 180, 0, 49, 16, 59]
abbrev dktX1_printProgram_1 : List UInt8 := dkwX1_printProgram_1 ++ dktX1_printProgram_2
def dkwX1_printProgram_0 : List UInt8 := [42, 180, 0, 49, 3, 182, 1, 147, 3, 60, 27, 42, 180, 0, 21, 185, 0, 149, 1, 0, 162, 0, 36, 42]
abbrev dktX1_printProgram_0 : List UInt8 := dkwX1_printProgram_0 ++ dktX1_printProgram_1
theorem dksX1_printProgram_0 : cX1_printProgram.data.toList.drop 0 = dktX1_printProgram_0 := by decide +kernel
theorem dksX1_printProgram_1 : cX1_printProgram.data.toList.drop 24 = dktX1_printProgram_1 := dk_seg dksX1_printProgram_0 24 rfl rfl
theorem dksX1_printProgram_2 : cX1_printProgram.data.toList.drop 46 = dktX1_printProgram_2 := dk_seg dksX1_printProgram_1 22 rfl rfl
theorem dX1_printProgram_0 : decode cX1_printProgram 0 = .ok (.aload_n 0, 1) := dk_42 (dk_at dksX1_printProgram_0 0 rfl rfl)
theorem dX1_printProgram_1 : decode cX1_printProgram 1 = .ok (.getfield 49, 3) := dk_180 0 49 (dk_at dksX1_printProgram_0 1 rfl rfl)
theorem dX1_printProgram_4 : decode cX1_printProgram 4 = .ok (.iconst 0, 1) := dk_3 (dk_at dksX1_printProgram_0 4 rfl rfl)
theorem dX1_printProgram_5 : decode cX1_printProgram 5 = .ok (.invokevirtual 403, 3) := dk_182 1 147 (dk_at dksX1_printProgram_0 5 rfl rfl)
theorem dX1_printProgram_8 : decode cX1_printProgram 8 = .ok (.iconst 0, 1) := dk_3 (dk_at dksX1_printProgram_0 8 rfl rfl)
theorem dX1_printProgram_9 : decode cX1_printProgram 9 = .ok (.istore_n 1, 1) := dk_60 (dk_at dksX1_printProgram_0 9 rfl rfl)
theorem dX1_printProgram_10 : decode cX1_printProgram 10 = .ok (.iload_n 1, 1) := dk_27 (dk_at dksX1_printProgram_0 10 rfl rfl)
theorem dX1_printProgram_11 : decode cX1_printProgram 11 = .ok (.aload_n 0, 1) := dk_42 (dk_at dksX1_printProgram_0 11 rfl rfl)
theorem dX1_printProgram_12 : decode cX1_printProgram 12 = .ok (.getfield 21, 3) := dk_180 0 21 (dk_at dksX1_printProgram_0 12 rfl rfl)
theorem dX1_printProgram_15 : decode cX1_printProgram 15 = .ok (.invokeinterface 149 1, 5) := by decide +kernel
theorem dX1_printProgram_20 : decode cX1_printProgram 20 = .ok (.if_icmp .ge 36, 3) := dk_162 0 36 (dk_at dksX1_printProgram_0 20 rfl rfl)
theorem dX1_printProgram_23 : decode cX1_printProgram 23 = .ok (.aload_n 0, 1) := dk_42 (dk_at dksX1_printProgram_0 23 rfl rfl)
theorem dX1_printProgram_24 : decode cX1_printProgram 24 = .ok (.aload_n 0, 1) := dk_42 (dk_at dksX1_printProgram_1 0 rfl rfl)
theorem dX1_printProgram_25 : decode cX1_printProgram 25 = .ok (.getfield 21, 3) := dk_180 0 21 (dk_at dksX1_printProgram_1 1 rfl rfl)
theorem dX1_printProgram_28 : decode cX1_printProgram 28 = .ok (.iload_n 1, 1) := dk_27 (dk_at dksX1_printProgram_1 4 rfl rfl)
theorem dX1_printProgram_29 : decode cX1_printProgram 29 = .ok (.invokeinterface 163 2, 5) := by decide +kernel
theorem dX1_printProgram_34 : decode cX1_printProgram 34 = .ok (.checkcast 192, 3) := dk_192 0 192 (dk_at dksX1_printProgram_1 10 rfl rfl)
theorem dX1_printProgram_37 : decode cX1_printProgram 37 = .ok (.invokevirtual 452, 3) := dk_182 1 196 (dk_at dksX1_printProgram_1 13 rfl rfl)
theorem dX1_printProgram_40 : decode cX1_printProgram 40 = .ok (.aload_n 0, 1) := dk_42 (dk_at dksX1_printProgram_1 16 rfl rfl)
theorem dX1_printProgram_41 : decode cX1_printProgram 41 = .ok (.getfield 49, 3) := dk_180 0 49 (dk_at dksX1_printProgram_1 17 rfl rfl)
theorem dX1_printProgram_44 : decode cX1_printProgram 44 = .ok (.bipush 59, 2) := dk_16 59 (dk_at dksX1_printProgram_1 20 rfl rfl)
theorem dX1_printProgram_46 : decode cX1_printProgram 46 = .ok (.invokevirtual 437, 3) := dk_182 1 181 (dk_at dksX1_printProgram_2 0 rfl rfl)
theorem dX1_printProgram_49 : decode cX1_printProgram 49 = .ok (.pop, 1) := dk_87 (dk_at dksX1_printProgram_2 3 rfl rfl)
theorem dX1_printProgram_50 : decode cX1_printProgram 50 = .ok (.iinc 1 1, 3) := dk_132 1 1 (dk_at dksX1_printProgram_2 4 rfl rfl)
theorem dX1_printProgram_53 : decode cX1_printProgram 53 = .ok (.goto (-43), 3) := dk_167 255 213 (dk_at dksX1_printProgram_2 7 rfl rfl)
theorem dX1_printProgram_56 : decode cX1_printProgram 56 = .ok (.aload_n 0, 1) := dk_42 (dk_at dksX1_printProgram_2 10 rfl rfl)
theorem dX1_printProgram_57 : decode cX1_printProgram 57 = .ok (.getfield 49, 3) := dk_180 0 49 (dk_at dksX1_printProgram_2 11 rfl rfl)
theorem dX1_printProgram_60 : decode cX1_printProgram 60 = .ok (.invokevirtual 410, 3) := dk_182 1 154 (dk_at dksX1_printProgram_2 14 rfl rfl)
theorem dX1_printProgram_63 : decode cX1_printProgram 63 = .ok (.ireturn, 1) := dk_172 (dk_at dksX1_printProgram_2 17 rfl rfl)
abbrev cX1_writeOperation : ByteArray := prog_1_method_78_code
def yX1_writeOperation : MethodName := ⟨RX1, "writeOperation", "(LStringTableau$Operation;)V"⟩
def dkwX1_writeOperation_6 : List UInt8 := [159, 0, 21, 42, 180, 0, 49, 16, 32, 182, 1, 181, 43, 5, 182, 0, 197, 182, 1, 178, 87, 177]
abbrev dktX1_writeOperation_6 : List UInt8 := dkwX1_writeOperation_6 ++ []
def dkwX1_writeOperation_5 : List UInt8 := [167, 255, 217, 177, 42, 180, 0, 49, 43, 4, 182, 0, 197, 182, 1, 178, 87, 43, 5, 182, 0, 197, 2]
abbrev dktX1_writeOperation_5 : List UInt8 := dkwX1_writeOperation_5 ++ dktX1_writeOperation_6
def dkwX1_writeOperation_4 : List UInt8 := [182, 0, 197, 43, 8, 182, 0, 197, 28, 184, 0, 66, 182, 1, 190, 182, 1, 181, 87, 132, 2, 1]
abbrev dktX1_writeOperation_4 : List UInt8 := dkwX1_writeOperation_4 ++ dktX1_writeOperation_5
def dkwX1_writeOperation_3 : List UInt8 := [160, 0, 48, 3, 61, 28, 42, 182, 0, 173, 162, 0, 37, 42, 180, 0, 49, 19, 1, 188, 43, 7]
abbrev dktX1_writeOperation_3 : List UInt8 := dkwX1_writeOperation_3 ++ dktX1_writeOperation_4
def dkwX1_writeOperation_2 : List UInt8 := [43, 180, 0, 194, 184, 1, 184, 182, 1, 175, 16, 32, 182, 1, 181, 87, 43, 180, 0, 194, 16, 9]
abbrev dktX1_writeOperation_2 : List UInt8 := dkwX1_writeOperation_2 ++ dktX1_writeOperation_3
def dkwX1_writeOperation_1 : List UInt8 := [19, 1, 173, 182, 1, 175, 43, 6, 182, 0, 197, 182, 1, 178, 16, 32, 182, 1, 181, 87, 42, 180, 0, 49]
abbrev dktX1_writeOperation_1 : List UInt8 := dkwX1_writeOperation_1 ++ dktX1_writeOperation_2
def dkwX1_writeOperation_0 : List UInt8 := [43, 6, 182, 0, 197, 2, 159, 0, 36, 43, 180, 0, 194, 16, 9, 159, 0, 27, 42, 180, 0, 49]
abbrev dktX1_writeOperation_0 : List UInt8 := dkwX1_writeOperation_0 ++ dktX1_writeOperation_1
theorem dksX1_writeOperation_0 : cX1_writeOperation.data.toList.drop 0 = dktX1_writeOperation_0 := by decide +kernel
theorem dksX1_writeOperation_1 : cX1_writeOperation.data.toList.drop 22 = dktX1_writeOperation_1 := dk_seg dksX1_writeOperation_0 22 rfl rfl
theorem dksX1_writeOperation_2 : cX1_writeOperation.data.toList.drop 46 = dktX1_writeOperation_2 := dk_seg dksX1_writeOperation_1 24 rfl rfl
theorem dksX1_writeOperation_3 : cX1_writeOperation.data.toList.drop 68 = dktX1_writeOperation_3 := dk_seg dksX1_writeOperation_2 22 rfl rfl
theorem dksX1_writeOperation_4 : cX1_writeOperation.data.toList.drop 90 = dktX1_writeOperation_4 := dk_seg dksX1_writeOperation_3 22 rfl rfl
theorem dksX1_writeOperation_5 : cX1_writeOperation.data.toList.drop 112 = dktX1_writeOperation_5 := dk_seg dksX1_writeOperation_4 22 rfl rfl
theorem dksX1_writeOperation_6 : cX1_writeOperation.data.toList.drop 135 = dktX1_writeOperation_6 := dk_seg dksX1_writeOperation_5 23 rfl rfl
theorem dX1_writeOperation_0 : decode cX1_writeOperation 0 = .ok (.aload_n 1, 1) := dk_43 (dk_at dksX1_writeOperation_0 0 rfl rfl)
theorem dX1_writeOperation_1 : decode cX1_writeOperation 1 = .ok (.iconst 3, 1) := dk_6 (dk_at dksX1_writeOperation_0 1 rfl rfl)
theorem dX1_writeOperation_2 : decode cX1_writeOperation 2 = .ok (.invokevirtual 197, 3) := dk_182 0 197 (dk_at dksX1_writeOperation_0 2 rfl rfl)
theorem dX1_writeOperation_5 : decode cX1_writeOperation 5 = .ok (.iconst (-1), 1) := dk_2 (dk_at dksX1_writeOperation_0 5 rfl rfl)
theorem dX1_writeOperation_6 : decode cX1_writeOperation 6 = .ok (.if_icmp .eq 36, 3) := dk_159 0 36 (dk_at dksX1_writeOperation_0 6 rfl rfl)
theorem dX1_writeOperation_9 : decode cX1_writeOperation 9 = .ok (.aload_n 1, 1) := dk_43 (dk_at dksX1_writeOperation_0 9 rfl rfl)
theorem dX1_writeOperation_10 : decode cX1_writeOperation 10 = .ok (.getfield 194, 3) := dk_180 0 194 (dk_at dksX1_writeOperation_0 10 rfl rfl)
theorem dX1_writeOperation_13 : decode cX1_writeOperation 13 = .ok (.bipush 9, 2) := dk_16 9 (dk_at dksX1_writeOperation_0 13 rfl rfl)
theorem dX1_writeOperation_15 : decode cX1_writeOperation 15 = .ok (.if_icmp .eq 27, 3) := dk_159 0 27 (dk_at dksX1_writeOperation_0 15 rfl rfl)
theorem dX1_writeOperation_18 : decode cX1_writeOperation 18 = .ok (.aload_n 0, 1) := dk_42 (dk_at dksX1_writeOperation_0 18 rfl rfl)
theorem dX1_writeOperation_19 : decode cX1_writeOperation 19 = .ok (.getfield 49, 3) := dk_180 0 49 (dk_at dksX1_writeOperation_0 19 rfl rfl)
theorem dX1_writeOperation_22 : decode cX1_writeOperation 22 = .ok (.ldc_w 429, 3) := dk_19 1 173 (dk_at dksX1_writeOperation_1 0 rfl rfl)
theorem dX1_writeOperation_25 : decode cX1_writeOperation 25 = .ok (.invokevirtual 431, 3) := dk_182 1 175 (dk_at dksX1_writeOperation_1 3 rfl rfl)
theorem dX1_writeOperation_28 : decode cX1_writeOperation 28 = .ok (.aload_n 1, 1) := dk_43 (dk_at dksX1_writeOperation_1 6 rfl rfl)
theorem dX1_writeOperation_29 : decode cX1_writeOperation 29 = .ok (.iconst 3, 1) := dk_6 (dk_at dksX1_writeOperation_1 7 rfl rfl)
theorem dX1_writeOperation_30 : decode cX1_writeOperation 30 = .ok (.invokevirtual 197, 3) := dk_182 0 197 (dk_at dksX1_writeOperation_1 8 rfl rfl)
theorem dX1_writeOperation_33 : decode cX1_writeOperation 33 = .ok (.invokevirtual 434, 3) := dk_182 1 178 (dk_at dksX1_writeOperation_1 11 rfl rfl)
theorem dX1_writeOperation_36 : decode cX1_writeOperation 36 = .ok (.bipush 32, 2) := dk_16 32 (dk_at dksX1_writeOperation_1 14 rfl rfl)
theorem dX1_writeOperation_38 : decode cX1_writeOperation 38 = .ok (.invokevirtual 437, 3) := dk_182 1 181 (dk_at dksX1_writeOperation_1 16 rfl rfl)
theorem dX1_writeOperation_41 : decode cX1_writeOperation 41 = .ok (.pop, 1) := dk_87 (dk_at dksX1_writeOperation_1 19 rfl rfl)
theorem dX1_writeOperation_42 : decode cX1_writeOperation 42 = .ok (.aload_n 0, 1) := dk_42 (dk_at dksX1_writeOperation_1 20 rfl rfl)
theorem dX1_writeOperation_43 : decode cX1_writeOperation 43 = .ok (.getfield 49, 3) := dk_180 0 49 (dk_at dksX1_writeOperation_1 21 rfl rfl)
theorem dX1_writeOperation_46 : decode cX1_writeOperation 46 = .ok (.aload_n 1, 1) := dk_43 (dk_at dksX1_writeOperation_2 0 rfl rfl)
theorem dX1_writeOperation_47 : decode cX1_writeOperation 47 = .ok (.getfield 194, 3) := dk_180 0 194 (dk_at dksX1_writeOperation_2 1 rfl rfl)
theorem dX1_writeOperation_50 : decode cX1_writeOperation 50 = .ok (.invokestatic 440, 3) := dk_184 1 184 (dk_at dksX1_writeOperation_2 4 rfl rfl)
theorem dX1_writeOperation_53 : decode cX1_writeOperation 53 = .ok (.invokevirtual 431, 3) := dk_182 1 175 (dk_at dksX1_writeOperation_2 7 rfl rfl)
theorem dX1_writeOperation_56 : decode cX1_writeOperation 56 = .ok (.bipush 32, 2) := dk_16 32 (dk_at dksX1_writeOperation_2 10 rfl rfl)
theorem dX1_writeOperation_58 : decode cX1_writeOperation 58 = .ok (.invokevirtual 437, 3) := dk_182 1 181 (dk_at dksX1_writeOperation_2 12 rfl rfl)
theorem dX1_writeOperation_61 : decode cX1_writeOperation 61 = .ok (.pop, 1) := dk_87 (dk_at dksX1_writeOperation_2 15 rfl rfl)
theorem dX1_writeOperation_62 : decode cX1_writeOperation 62 = .ok (.aload_n 1, 1) := dk_43 (dk_at dksX1_writeOperation_2 16 rfl rfl)
theorem dX1_writeOperation_63 : decode cX1_writeOperation 63 = .ok (.getfield 194, 3) := dk_180 0 194 (dk_at dksX1_writeOperation_2 17 rfl rfl)
theorem dX1_writeOperation_66 : decode cX1_writeOperation 66 = .ok (.bipush 9, 2) := dk_16 9 (dk_at dksX1_writeOperation_2 20 rfl rfl)
theorem dX1_writeOperation_68 : decode cX1_writeOperation 68 = .ok (.if_icmp .ne 48, 3) := dk_160 0 48 (dk_at dksX1_writeOperation_3 0 rfl rfl)
theorem dX1_writeOperation_71 : decode cX1_writeOperation 71 = .ok (.iconst 0, 1) := dk_3 (dk_at dksX1_writeOperation_3 3 rfl rfl)
theorem dX1_writeOperation_72 : decode cX1_writeOperation 72 = .ok (.istore_n 2, 1) := dk_61 (dk_at dksX1_writeOperation_3 4 rfl rfl)
theorem dX1_writeOperation_73 : decode cX1_writeOperation 73 = .ok (.iload_n 2, 1) := dk_28 (dk_at dksX1_writeOperation_3 5 rfl rfl)
theorem dX1_writeOperation_74 : decode cX1_writeOperation 74 = .ok (.aload_n 0, 1) := dk_42 (dk_at dksX1_writeOperation_3 6 rfl rfl)
theorem dX1_writeOperation_75 : decode cX1_writeOperation 75 = .ok (.invokevirtual 173, 3) := dk_182 0 173 (dk_at dksX1_writeOperation_3 7 rfl rfl)
theorem dX1_writeOperation_78 : decode cX1_writeOperation 78 = .ok (.if_icmp .ge 37, 3) := dk_162 0 37 (dk_at dksX1_writeOperation_3 10 rfl rfl)
theorem dX1_writeOperation_81 : decode cX1_writeOperation 81 = .ok (.aload_n 0, 1) := dk_42 (dk_at dksX1_writeOperation_3 13 rfl rfl)
theorem dX1_writeOperation_82 : decode cX1_writeOperation 82 = .ok (.getfield 49, 3) := dk_180 0 49 (dk_at dksX1_writeOperation_3 14 rfl rfl)
theorem dX1_writeOperation_85 : decode cX1_writeOperation 85 = .ok (.ldc_w 444, 3) := dk_19 1 188 (dk_at dksX1_writeOperation_3 17 rfl rfl)
theorem dX1_writeOperation_88 : decode cX1_writeOperation 88 = .ok (.aload_n 1, 1) := dk_43 (dk_at dksX1_writeOperation_3 20 rfl rfl)
theorem dX1_writeOperation_89 : decode cX1_writeOperation 89 = .ok (.iconst 4, 1) := dk_7 (dk_at dksX1_writeOperation_3 21 rfl rfl)
theorem dX1_writeOperation_90 : decode cX1_writeOperation 90 = .ok (.invokevirtual 197, 3) := dk_182 0 197 (dk_at dksX1_writeOperation_4 0 rfl rfl)
theorem dX1_writeOperation_93 : decode cX1_writeOperation 93 = .ok (.aload_n 1, 1) := dk_43 (dk_at dksX1_writeOperation_4 3 rfl rfl)
theorem dX1_writeOperation_94 : decode cX1_writeOperation 94 = .ok (.iconst 5, 1) := dk_8 (dk_at dksX1_writeOperation_4 4 rfl rfl)
theorem dX1_writeOperation_95 : decode cX1_writeOperation 95 = .ok (.invokevirtual 197, 3) := dk_182 0 197 (dk_at dksX1_writeOperation_4 5 rfl rfl)
theorem dX1_writeOperation_98 : decode cX1_writeOperation 98 = .ok (.iload_n 2, 1) := dk_28 (dk_at dksX1_writeOperation_4 8 rfl rfl)
theorem dX1_writeOperation_99 : decode cX1_writeOperation 99 = .ok (.invokestatic 66, 3) := dk_184 0 66 (dk_at dksX1_writeOperation_4 9 rfl rfl)
theorem dX1_writeOperation_102 : decode cX1_writeOperation 102 = .ok (.invokevirtual 446, 3) := dk_182 1 190 (dk_at dksX1_writeOperation_4 12 rfl rfl)
theorem dX1_writeOperation_105 : decode cX1_writeOperation 105 = .ok (.invokevirtual 437, 3) := dk_182 1 181 (dk_at dksX1_writeOperation_4 15 rfl rfl)
theorem dX1_writeOperation_108 : decode cX1_writeOperation 108 = .ok (.pop, 1) := dk_87 (dk_at dksX1_writeOperation_4 18 rfl rfl)
theorem dX1_writeOperation_109 : decode cX1_writeOperation 109 = .ok (.iinc 2 1, 3) := dk_132 2 1 (dk_at dksX1_writeOperation_4 19 rfl rfl)
theorem dX1_writeOperation_112 : decode cX1_writeOperation 112 = .ok (.goto (-39), 3) := dk_167 255 217 (dk_at dksX1_writeOperation_5 0 rfl rfl)
theorem dX1_writeOperation_115 : decode cX1_writeOperation 115 = .ok (.return_, 1) := dk_177 (dk_at dksX1_writeOperation_5 3 rfl rfl)
theorem dX1_writeOperation_116 : decode cX1_writeOperation 116 = .ok (.aload_n 0, 1) := dk_42 (dk_at dksX1_writeOperation_5 4 rfl rfl)
theorem dX1_writeOperation_117 : decode cX1_writeOperation 117 = .ok (.getfield 49, 3) := dk_180 0 49 (dk_at dksX1_writeOperation_5 5 rfl rfl)
theorem dX1_writeOperation_120 : decode cX1_writeOperation 120 = .ok (.aload_n 1, 1) := dk_43 (dk_at dksX1_writeOperation_5 8 rfl rfl)
theorem dX1_writeOperation_121 : decode cX1_writeOperation 121 = .ok (.iconst 1, 1) := dk_4 (dk_at dksX1_writeOperation_5 9 rfl rfl)
theorem dX1_writeOperation_122 : decode cX1_writeOperation 122 = .ok (.invokevirtual 197, 3) := dk_182 0 197 (dk_at dksX1_writeOperation_5 10 rfl rfl)
theorem dX1_writeOperation_125 : decode cX1_writeOperation 125 = .ok (.invokevirtual 434, 3) := dk_182 1 178 (dk_at dksX1_writeOperation_5 13 rfl rfl)
theorem dX1_writeOperation_128 : decode cX1_writeOperation 128 = .ok (.pop, 1) := dk_87 (dk_at dksX1_writeOperation_5 16 rfl rfl)
theorem dX1_writeOperation_129 : decode cX1_writeOperation 129 = .ok (.aload_n 1, 1) := dk_43 (dk_at dksX1_writeOperation_5 17 rfl rfl)
theorem dX1_writeOperation_130 : decode cX1_writeOperation 130 = .ok (.iconst 2, 1) := dk_5 (dk_at dksX1_writeOperation_5 18 rfl rfl)
theorem dX1_writeOperation_131 : decode cX1_writeOperation 131 = .ok (.invokevirtual 197, 3) := dk_182 0 197 (dk_at dksX1_writeOperation_5 19 rfl rfl)
theorem dX1_writeOperation_134 : decode cX1_writeOperation 134 = .ok (.iconst (-1), 1) := dk_2 (dk_at dksX1_writeOperation_5 22 rfl rfl)
theorem dX1_writeOperation_135 : decode cX1_writeOperation 135 = .ok (.if_icmp .eq 21, 3) := dk_159 0 21 (dk_at dksX1_writeOperation_6 0 rfl rfl)
theorem dX1_writeOperation_138 : decode cX1_writeOperation 138 = .ok (.aload_n 0, 1) := dk_42 (dk_at dksX1_writeOperation_6 3 rfl rfl)
theorem dX1_writeOperation_139 : decode cX1_writeOperation 139 = .ok (.getfield 49, 3) := dk_180 0 49 (dk_at dksX1_writeOperation_6 4 rfl rfl)
theorem dX1_writeOperation_142 : decode cX1_writeOperation 142 = .ok (.bipush 32, 2) := dk_16 32 (dk_at dksX1_writeOperation_6 7 rfl rfl)
theorem dX1_writeOperation_144 : decode cX1_writeOperation 144 = .ok (.invokevirtual 437, 3) := dk_182 1 181 (dk_at dksX1_writeOperation_6 9 rfl rfl)
theorem dX1_writeOperation_147 : decode cX1_writeOperation 147 = .ok (.aload_n 1, 1) := dk_43 (dk_at dksX1_writeOperation_6 12 rfl rfl)
theorem dX1_writeOperation_148 : decode cX1_writeOperation 148 = .ok (.iconst 2, 1) := dk_5 (dk_at dksX1_writeOperation_6 13 rfl rfl)
theorem dX1_writeOperation_149 : decode cX1_writeOperation 149 = .ok (.invokevirtual 197, 3) := dk_182 0 197 (dk_at dksX1_writeOperation_6 14 rfl rfl)
theorem dX1_writeOperation_152 : decode cX1_writeOperation 152 = .ok (.invokevirtual 434, 3) := dk_182 1 178 (dk_at dksX1_writeOperation_6 17 rfl rfl)
theorem dX1_writeOperation_155 : decode cX1_writeOperation 155 = .ok (.pop, 1) := dk_87 (dk_at dksX1_writeOperation_6 20 rfl rfl)
theorem dX1_writeOperation_156 : decode cX1_writeOperation 156 = .ok (.return_, 1) := dk_177 (dk_at dksX1_writeOperation_6 21 rfl rfl)
abbrev cX1_nameOf : ByteArray := prog_1_method_77_code
def yX1_nameOf : MethodName := ⟨RX1, "nameOf", "(I)Ljava/lang/String;"⟩
def dkwX1_nameOf_4 : List UInt8 := [19, 1, 170, 167, 0, 6, 19, 1, 172, 176]
abbrev dktX1_nameOf_4 : List UInt8 := dkwX1_nameOf_4 ++ []
def dkwX1_nameOf_3 : List UInt8 := [19, 1, 163, 167, 0, 30, 19, 1, 165, 167, 0, 24, 19, 1, 166, 167, 0, 18, 19, 1, 168, 167, 0, 12]
abbrev dktX1_nameOf_3 : List UInt8 := dkwX1_nameOf_3 ++ dktX1_nameOf_4
def dkwX1_nameOf_2 : List UInt8 := [19, 1, 156, 167, 0, 54, 19, 1, 158, 167, 0, 48, 19, 1, 160, 167, 0, 42, 19, 1, 162, 167, 0, 36]
abbrev dktX1_nameOf_2 : List UInt8 := dkwX1_nameOf_2 ++ dktX1_nameOf_3
def dkwX1_nameOf_1 : List UInt8 := [170, 0, 0, 0, 0, 0, 105, 0, 0, 0, 0, 0, 0, 0, 8, 0, 0, 0, 51, 0, 0, 0, 57, 0, 0, 0, 63, 0, 0, 0, 69, 0, 0, 0, 75, 0, 0, 0, 81, 0, 0, 0, 87, 0, 0, 0, 93, 0, 0, 0, 99]
abbrev dktX1_nameOf_1 : List UInt8 := dkwX1_nameOf_1 ++ dktX1_nameOf_2
def dkwX1_nameOf_0 : List UInt8 := [26]
abbrev dktX1_nameOf_0 : List UInt8 := dkwX1_nameOf_0 ++ dktX1_nameOf_1
theorem dksX1_nameOf_0 : cX1_nameOf.data.toList.drop 0 = dktX1_nameOf_0 := by decide +kernel
theorem dksX1_nameOf_1 : cX1_nameOf.data.toList.drop 1 = dktX1_nameOf_1 := dk_seg dksX1_nameOf_0 1 rfl rfl
theorem dksX1_nameOf_2 : cX1_nameOf.data.toList.drop 52 = dktX1_nameOf_2 := dk_seg dksX1_nameOf_1 51 rfl rfl
theorem dksX1_nameOf_3 : cX1_nameOf.data.toList.drop 76 = dktX1_nameOf_3 := dk_seg dksX1_nameOf_2 24 rfl rfl
theorem dksX1_nameOf_4 : cX1_nameOf.data.toList.drop 100 = dktX1_nameOf_4 := dk_seg dksX1_nameOf_3 24 rfl rfl
theorem dX1_nameOf_0 : decode cX1_nameOf 0 = .ok (.iload_n 0, 1) := dk_26 (dk_at dksX1_nameOf_0 0 rfl rfl)
theorem dX1_nameOf_1 : decode cX1_nameOf 1 = .ok (.tableswitch 105 0 8 #[51, 57, 63, 69, 75, 81, 87, 93, 99], 51) := by decide +kernel
theorem dX1_nameOf_52 : decode cX1_nameOf 52 = .ok (.ldc_w 412, 3) := dk_19 1 156 (dk_at dksX1_nameOf_2 0 rfl rfl)
theorem dX1_nameOf_55 : decode cX1_nameOf 55 = .ok (.goto 54, 3) := dk_167 0 54 (dk_at dksX1_nameOf_2 3 rfl rfl)
theorem dX1_nameOf_58 : decode cX1_nameOf 58 = .ok (.ldc_w 414, 3) := dk_19 1 158 (dk_at dksX1_nameOf_2 6 rfl rfl)
theorem dX1_nameOf_61 : decode cX1_nameOf 61 = .ok (.goto 48, 3) := dk_167 0 48 (dk_at dksX1_nameOf_2 9 rfl rfl)
theorem dX1_nameOf_64 : decode cX1_nameOf 64 = .ok (.ldc_w 416, 3) := dk_19 1 160 (dk_at dksX1_nameOf_2 12 rfl rfl)
theorem dX1_nameOf_67 : decode cX1_nameOf 67 = .ok (.goto 42, 3) := dk_167 0 42 (dk_at dksX1_nameOf_2 15 rfl rfl)
theorem dX1_nameOf_70 : decode cX1_nameOf 70 = .ok (.ldc_w 418, 3) := dk_19 1 162 (dk_at dksX1_nameOf_2 18 rfl rfl)
theorem dX1_nameOf_73 : decode cX1_nameOf 73 = .ok (.goto 36, 3) := dk_167 0 36 (dk_at dksX1_nameOf_2 21 rfl rfl)
theorem dX1_nameOf_76 : decode cX1_nameOf 76 = .ok (.ldc_w 419, 3) := dk_19 1 163 (dk_at dksX1_nameOf_3 0 rfl rfl)
theorem dX1_nameOf_79 : decode cX1_nameOf 79 = .ok (.goto 30, 3) := dk_167 0 30 (dk_at dksX1_nameOf_3 3 rfl rfl)
theorem dX1_nameOf_82 : decode cX1_nameOf 82 = .ok (.ldc_w 421, 3) := dk_19 1 165 (dk_at dksX1_nameOf_3 6 rfl rfl)
theorem dX1_nameOf_85 : decode cX1_nameOf 85 = .ok (.goto 24, 3) := dk_167 0 24 (dk_at dksX1_nameOf_3 9 rfl rfl)
theorem dX1_nameOf_88 : decode cX1_nameOf 88 = .ok (.ldc_w 422, 3) := dk_19 1 166 (dk_at dksX1_nameOf_3 12 rfl rfl)
theorem dX1_nameOf_91 : decode cX1_nameOf 91 = .ok (.goto 18, 3) := dk_167 0 18 (dk_at dksX1_nameOf_3 15 rfl rfl)
theorem dX1_nameOf_94 : decode cX1_nameOf 94 = .ok (.ldc_w 424, 3) := dk_19 1 168 (dk_at dksX1_nameOf_3 18 rfl rfl)
theorem dX1_nameOf_97 : decode cX1_nameOf 97 = .ok (.goto 12, 3) := dk_167 0 12 (dk_at dksX1_nameOf_3 21 rfl rfl)
theorem dX1_nameOf_100 : decode cX1_nameOf 100 = .ok (.ldc_w 426, 3) := dk_19 1 170 (dk_at dksX1_nameOf_4 0 rfl rfl)
theorem dX1_nameOf_103 : decode cX1_nameOf 103 = .ok (.goto 6, 3) := dk_167 0 6 (dk_at dksX1_nameOf_4 3 rfl rfl)
theorem dX1_nameOf_106 : decode cX1_nameOf 106 = .ok (.ldc_w 428, 3) := dk_19 1 172 (dk_at dksX1_nameOf_4 6 rfl rfl)
theorem dX1_nameOf_109 : decode cX1_nameOf 109 = .ok (.areturn, 1) := dk_176 (dk_at dksX1_nameOf_4 9 rfl rfl)
abbrev cX1_outputByte : ByteArray := prog_1_method_80_code
def yX1_outputByte : MethodName := ⟨RX1, "outputByte", "(I)I"⟩
def dkwX1_outputByte_1 : List UInt8 := [182, 1, 200, 167, 0, 4, 2, 172]
abbrev dktX1_outputByte_1 : List UInt8 := dkwX1_outputByte_1 ++ []
def dkwX1_outputByte_0 : List UInt8 := [27, 3, 42, 180, 0, 49, 182, 1, 154, 4, 100, 184, 0, 88, 153, 0, 14, 42, 180, 0, 49, 27]
abbrev dktX1_outputByte_0 : List UInt8 := dkwX1_outputByte_0 ++ dktX1_outputByte_1
theorem dksX1_outputByte_0 : cX1_outputByte.data.toList.drop 0 = dktX1_outputByte_0 := by decide +kernel
theorem dksX1_outputByte_1 : cX1_outputByte.data.toList.drop 22 = dktX1_outputByte_1 := dk_seg dksX1_outputByte_0 22 rfl rfl
theorem dX1_outputByte_0 : decode cX1_outputByte 0 = .ok (.iload_n 1, 1) := dk_27 (dk_at dksX1_outputByte_0 0 rfl rfl)
theorem dX1_outputByte_1 : decode cX1_outputByte 1 = .ok (.iconst 0, 1) := dk_3 (dk_at dksX1_outputByte_0 1 rfl rfl)
theorem dX1_outputByte_2 : decode cX1_outputByte 2 = .ok (.aload_n 0, 1) := dk_42 (dk_at dksX1_outputByte_0 2 rfl rfl)
theorem dX1_outputByte_3 : decode cX1_outputByte 3 = .ok (.getfield 49, 3) := dk_180 0 49 (dk_at dksX1_outputByte_0 3 rfl rfl)
theorem dX1_outputByte_6 : decode cX1_outputByte 6 = .ok (.invokevirtual 410, 3) := dk_182 1 154 (dk_at dksX1_outputByte_0 6 rfl rfl)
theorem dX1_outputByte_9 : decode cX1_outputByte 9 = .ok (.iconst 1, 1) := dk_4 (dk_at dksX1_outputByte_0 9 rfl rfl)
theorem dX1_outputByte_10 : decode cX1_outputByte 10 = .ok (.isub, 1) := dk_100 (dk_at dksX1_outputByte_0 10 rfl rfl)
theorem dX1_outputByte_11 : decode cX1_outputByte 11 = .ok (.invokestatic 88, 3) := dk_184 0 88 (dk_at dksX1_outputByte_0 11 rfl rfl)
theorem dX1_outputByte_14 : decode cX1_outputByte 14 = .ok (.ifCond .eq 14, 3) := dk_153 0 14 (dk_at dksX1_outputByte_0 14 rfl rfl)
theorem dX1_outputByte_17 : decode cX1_outputByte 17 = .ok (.aload_n 0, 1) := dk_42 (dk_at dksX1_outputByte_0 17 rfl rfl)
theorem dX1_outputByte_18 : decode cX1_outputByte 18 = .ok (.getfield 49, 3) := dk_180 0 49 (dk_at dksX1_outputByte_0 18 rfl rfl)
theorem dX1_outputByte_21 : decode cX1_outputByte 21 = .ok (.iload_n 1, 1) := dk_27 (dk_at dksX1_outputByte_0 21 rfl rfl)
theorem dX1_outputByte_22 : decode cX1_outputByte 22 = .ok (.invokevirtual 456, 3) := dk_182 1 200 (dk_at dksX1_outputByte_1 0 rfl rfl)
theorem dX1_outputByte_25 : decode cX1_outputByte 25 = .ok (.goto 4, 3) := dk_167 0 4 (dk_at dksX1_outputByte_1 3 rfl rfl)
theorem dX1_outputByte_28 : decode cX1_outputByte 28 = .ok (.iconst (-1), 1) := dk_2 (dk_at dksX1_outputByte_1 6 rfl rfl)
theorem dX1_outputByte_29 : decode cX1_outputByte 29 = .ok (.ireturn, 1) := dk_172 (dk_at dksX1_outputByte_1 7 rfl rfl)
abbrev cX1_operation : ByteArray := prog_1_method_24_code
def yX1_operation : MethodName := ⟨RX1, "operation", "(II)I"⟩
def dkwX1_operation_2 : List UInt8 := [192, 0, 192, 78, 28, 154, 0, 10, 45, 180, 0, 194, 167, 0, 8, 45, 28, 182, 0, 197, 172]
abbrev dktX1_operation_2 : List UInt8 := dkwX1_operation_2 ++ []
def dkwX1_operation_1 : List UInt8 := [184, 0, 88, 153, 0, 7, 4, 167, 0, 4, 3, 184, 0, 188, 42, 180, 0, 21, 27, 185, 0, 163, 2, 0]
abbrev dktX1_operation_1 : List UInt8 := dkwX1_operation_1 ++ dktX1_operation_2
def dkwX1_operation_0 : List UInt8 := [27, 3, 42, 180, 0, 21, 185, 0, 149, 1, 0, 4, 100, 184, 0, 88, 153, 0, 17, 28, 3, 16, 7]
abbrev dktX1_operation_0 : List UInt8 := dkwX1_operation_0 ++ dktX1_operation_1
theorem dksX1_operation_0 : cX1_operation.data.toList.drop 0 = dktX1_operation_0 := by decide +kernel
theorem dksX1_operation_1 : cX1_operation.data.toList.drop 23 = dktX1_operation_1 := dk_seg dksX1_operation_0 23 rfl rfl
theorem dksX1_operation_2 : cX1_operation.data.toList.drop 47 = dktX1_operation_2 := dk_seg dksX1_operation_1 24 rfl rfl
theorem dX1_operation_0 : decode cX1_operation 0 = .ok (.iload_n 1, 1) := dk_27 (dk_at dksX1_operation_0 0 rfl rfl)
theorem dX1_operation_1 : decode cX1_operation 1 = .ok (.iconst 0, 1) := dk_3 (dk_at dksX1_operation_0 1 rfl rfl)
theorem dX1_operation_2 : decode cX1_operation 2 = .ok (.aload_n 0, 1) := dk_42 (dk_at dksX1_operation_0 2 rfl rfl)
theorem dX1_operation_3 : decode cX1_operation 3 = .ok (.getfield 21, 3) := dk_180 0 21 (dk_at dksX1_operation_0 3 rfl rfl)
theorem dX1_operation_6 : decode cX1_operation 6 = .ok (.invokeinterface 149 1, 5) := by decide +kernel
theorem dX1_operation_11 : decode cX1_operation 11 = .ok (.iconst 1, 1) := dk_4 (dk_at dksX1_operation_0 11 rfl rfl)
theorem dX1_operation_12 : decode cX1_operation 12 = .ok (.isub, 1) := dk_100 (dk_at dksX1_operation_0 12 rfl rfl)
theorem dX1_operation_13 : decode cX1_operation 13 = .ok (.invokestatic 88, 3) := dk_184 0 88 (dk_at dksX1_operation_0 13 rfl rfl)
theorem dX1_operation_16 : decode cX1_operation 16 = .ok (.ifCond .eq 17, 3) := dk_153 0 17 (dk_at dksX1_operation_0 16 rfl rfl)
theorem dX1_operation_19 : decode cX1_operation 19 = .ok (.iload_n 2, 1) := dk_28 (dk_at dksX1_operation_0 19 rfl rfl)
theorem dX1_operation_20 : decode cX1_operation 20 = .ok (.iconst 0, 1) := dk_3 (dk_at dksX1_operation_0 20 rfl rfl)
theorem dX1_operation_21 : decode cX1_operation 21 = .ok (.bipush 7, 2) := dk_16 7 (dk_at dksX1_operation_0 21 rfl rfl)
theorem dX1_operation_23 : decode cX1_operation 23 = .ok (.invokestatic 88, 3) := dk_184 0 88 (dk_at dksX1_operation_1 0 rfl rfl)
theorem dX1_operation_26 : decode cX1_operation 26 = .ok (.ifCond .eq 7, 3) := dk_153 0 7 (dk_at dksX1_operation_1 3 rfl rfl)
theorem dX1_operation_29 : decode cX1_operation 29 = .ok (.iconst 1, 1) := dk_4 (dk_at dksX1_operation_1 6 rfl rfl)
theorem dX1_operation_30 : decode cX1_operation 30 = .ok (.goto 4, 3) := dk_167 0 4 (dk_at dksX1_operation_1 7 rfl rfl)
theorem dX1_operation_33 : decode cX1_operation 33 = .ok (.iconst 0, 1) := dk_3 (dk_at dksX1_operation_1 10 rfl rfl)
theorem dX1_operation_34 : decode cX1_operation 34 = .ok (.invokestatic 188, 3) := dk_184 0 188 (dk_at dksX1_operation_1 11 rfl rfl)
theorem dX1_operation_37 : decode cX1_operation 37 = .ok (.aload_n 0, 1) := dk_42 (dk_at dksX1_operation_1 14 rfl rfl)
theorem dX1_operation_38 : decode cX1_operation 38 = .ok (.getfield 21, 3) := dk_180 0 21 (dk_at dksX1_operation_1 15 rfl rfl)
theorem dX1_operation_41 : decode cX1_operation 41 = .ok (.iload_n 1, 1) := dk_27 (dk_at dksX1_operation_1 18 rfl rfl)
theorem dX1_operation_42 : decode cX1_operation 42 = .ok (.invokeinterface 163 2, 5) := by decide +kernel
theorem dX1_operation_47 : decode cX1_operation 47 = .ok (.checkcast 192, 3) := dk_192 0 192 (dk_at dksX1_operation_2 0 rfl rfl)
theorem dX1_operation_50 : decode cX1_operation 50 = .ok (.astore_n 3, 1) := dk_78 (dk_at dksX1_operation_2 3 rfl rfl)
theorem dX1_operation_51 : decode cX1_operation 51 = .ok (.iload_n 2, 1) := dk_28 (dk_at dksX1_operation_2 4 rfl rfl)
theorem dX1_operation_52 : decode cX1_operation 52 = .ok (.ifCond .ne 10, 3) := dk_154 0 10 (dk_at dksX1_operation_2 5 rfl rfl)
theorem dX1_operation_55 : decode cX1_operation 55 = .ok (.aload_n 3, 1) := dk_45 (dk_at dksX1_operation_2 8 rfl rfl)
theorem dX1_operation_56 : decode cX1_operation 56 = .ok (.getfield 194, 3) := dk_180 0 194 (dk_at dksX1_operation_2 9 rfl rfl)
theorem dX1_operation_59 : decode cX1_operation 59 = .ok (.goto 8, 3) := dk_167 0 8 (dk_at dksX1_operation_2 12 rfl rfl)
theorem dX1_operation_62 : decode cX1_operation 62 = .ok (.aload_n 3, 1) := dk_45 (dk_at dksX1_operation_2 15 rfl rfl)
theorem dX1_operation_63 : decode cX1_operation 63 = .ok (.iload_n 2, 1) := dk_28 (dk_at dksX1_operation_2 16 rfl rfl)
theorem dX1_operation_64 : decode cX1_operation 64 = .ok (.invokevirtual 197, 3) := dk_182 0 197 (dk_at dksX1_operation_2 17 rfl rfl)
theorem dX1_operation_67 : decode cX1_operation 67 = .ok (.ireturn, 1) := dk_172 (dk_at dksX1_operation_2 20 rfl rfl)
abbrev cX1_checkIndex : ByteArray := prog_1_method_3_code
def yX1_checkIndex : MethodName := ⟨RX1, "checkIndex", "(Z)V"⟩
def dkwX1_checkIndex_0 : List UInt8 := [26, 154, 0, 11, 187, 0, 53, 89, 183, 0, 55, 191, 177]
abbrev dktX1_checkIndex_0 : List UInt8 := dkwX1_checkIndex_0 ++ []
theorem dksX1_checkIndex_0 : cX1_checkIndex.data.toList.drop 0 = dktX1_checkIndex_0 := by decide +kernel
theorem dX1_checkIndex_0 : decode cX1_checkIndex 0 = .ok (.iload_n 0, 1) := dk_26 (dk_at dksX1_checkIndex_0 0 rfl rfl)
theorem dX1_checkIndex_1 : decode cX1_checkIndex 1 = .ok (.ifCond .ne 11, 3) := dk_154 0 11 (dk_at dksX1_checkIndex_0 1 rfl rfl)
theorem dX1_checkIndex_4 : decode cX1_checkIndex 4 = .ok (.new 53, 3) := dk_187 0 53 (dk_at dksX1_checkIndex_0 4 rfl rfl)
theorem dX1_checkIndex_7 : decode cX1_checkIndex 7 = .ok (.dup, 1) := dk_89 (dk_at dksX1_checkIndex_0 7 rfl rfl)
theorem dX1_checkIndex_8 : decode cX1_checkIndex 8 = .ok (.invokespecial 55, 3) := dk_183 0 55 (dk_at dksX1_checkIndex_0 8 rfl rfl)
theorem dX1_checkIndex_11 : decode cX1_checkIndex 11 = .ok (.athrow, 1) := dk_191 (dk_at dksX1_checkIndex_0 11 rfl rfl)
theorem dX1_checkIndex_12 : decode cX1_checkIndex 12 = .ok (.return_, 1) := dk_177 (dk_at dksX1_checkIndex_0 12 rfl rfl)
abbrev cX1_gate : ByteArray := prog_1_method_27_code
def yX1_gate : MethodName := ⟨RX1, "gate", "(III)I"⟩
def dkwX1_gate_3 : List UInt8 := [153, 0, 7, 29, 167, 0, 4, 2, 182, 0, 213, 42, 180, 0, 12, 180, 0, 95, 25, 4, 182, 0, 217, 172]
abbrev dktX1_gate_3 : List UInt8 := dkwX1_gate_3 ++ []
def dkwX1_gate_2 : List UInt8 := [180, 0, 12, 180, 0, 95, 58, 4, 42, 182, 0, 210, 42, 180, 0, 12, 27, 28, 27, 184, 0, 206]
abbrev dktX1_gate_2 : List UInt8 := dkwX1_gate_2 ++ dktX1_gate_3
def dkwX1_gate_1 : List UInt8 := [153, 0, 19, 27, 184, 0, 206, 153, 0, 8, 28, 29, 159, 0, 7, 4, 167, 0, 4, 3, 184, 0, 200, 42]
abbrev dktX1_gate_1 : List UInt8 := dkwX1_gate_1 ++ dktX1_gate_2
def dkwX1_gate_0 : List UInt8 := [42, 28, 182, 0, 203, 27, 184, 0, 206, 153, 0, 8, 42, 29, 182, 0, 203, 27, 3, 16, 8, 184, 0, 88]
abbrev dktX1_gate_0 : List UInt8 := dkwX1_gate_0 ++ dktX1_gate_1
theorem dksX1_gate_0 : cX1_gate.data.toList.drop 0 = dktX1_gate_0 := by decide +kernel
theorem dksX1_gate_1 : cX1_gate.data.toList.drop 24 = dktX1_gate_1 := dk_seg dksX1_gate_0 24 rfl rfl
theorem dksX1_gate_2 : cX1_gate.data.toList.drop 48 = dktX1_gate_2 := dk_seg dksX1_gate_1 24 rfl rfl
theorem dksX1_gate_3 : cX1_gate.data.toList.drop 70 = dktX1_gate_3 := dk_seg dksX1_gate_2 22 rfl rfl
theorem dX1_gate_0 : decode cX1_gate 0 = .ok (.aload_n 0, 1) := dk_42 (dk_at dksX1_gate_0 0 rfl rfl)
theorem dX1_gate_1 : decode cX1_gate 1 = .ok (.iload_n 2, 1) := dk_28 (dk_at dksX1_gate_0 1 rfl rfl)
theorem dX1_gate_2 : decode cX1_gate 2 = .ok (.invokevirtual 203, 3) := dk_182 0 203 (dk_at dksX1_gate_0 2 rfl rfl)
theorem dX1_gate_5 : decode cX1_gate 5 = .ok (.iload_n 1, 1) := dk_27 (dk_at dksX1_gate_0 5 rfl rfl)
theorem dX1_gate_6 : decode cX1_gate 6 = .ok (.invokestatic 206, 3) := dk_184 0 206 (dk_at dksX1_gate_0 6 rfl rfl)
theorem dX1_gate_9 : decode cX1_gate 9 = .ok (.ifCond .eq 8, 3) := dk_153 0 8 (dk_at dksX1_gate_0 9 rfl rfl)
theorem dX1_gate_12 : decode cX1_gate 12 = .ok (.aload_n 0, 1) := dk_42 (dk_at dksX1_gate_0 12 rfl rfl)
theorem dX1_gate_13 : decode cX1_gate 13 = .ok (.iload_n 3, 1) := dk_29 (dk_at dksX1_gate_0 13 rfl rfl)
theorem dX1_gate_14 : decode cX1_gate 14 = .ok (.invokevirtual 203, 3) := dk_182 0 203 (dk_at dksX1_gate_0 14 rfl rfl)
theorem dX1_gate_17 : decode cX1_gate 17 = .ok (.iload_n 1, 1) := dk_27 (dk_at dksX1_gate_0 17 rfl rfl)
theorem dX1_gate_18 : decode cX1_gate 18 = .ok (.iconst 0, 1) := dk_3 (dk_at dksX1_gate_0 18 rfl rfl)
theorem dX1_gate_19 : decode cX1_gate 19 = .ok (.bipush 8, 2) := dk_16 8 (dk_at dksX1_gate_0 19 rfl rfl)
theorem dX1_gate_21 : decode cX1_gate 21 = .ok (.invokestatic 88, 3) := dk_184 0 88 (dk_at dksX1_gate_0 21 rfl rfl)
theorem dX1_gate_24 : decode cX1_gate 24 = .ok (.ifCond .eq 19, 3) := dk_153 0 19 (dk_at dksX1_gate_1 0 rfl rfl)
theorem dX1_gate_27 : decode cX1_gate 27 = .ok (.iload_n 1, 1) := dk_27 (dk_at dksX1_gate_1 3 rfl rfl)
theorem dX1_gate_28 : decode cX1_gate 28 = .ok (.invokestatic 206, 3) := dk_184 0 206 (dk_at dksX1_gate_1 4 rfl rfl)
theorem dX1_gate_31 : decode cX1_gate 31 = .ok (.ifCond .eq 8, 3) := dk_153 0 8 (dk_at dksX1_gate_1 7 rfl rfl)
theorem dX1_gate_34 : decode cX1_gate 34 = .ok (.iload_n 2, 1) := dk_28 (dk_at dksX1_gate_1 10 rfl rfl)
theorem dX1_gate_35 : decode cX1_gate 35 = .ok (.iload_n 3, 1) := dk_29 (dk_at dksX1_gate_1 11 rfl rfl)
theorem dX1_gate_36 : decode cX1_gate 36 = .ok (.if_icmp .eq 7, 3) := dk_159 0 7 (dk_at dksX1_gate_1 12 rfl rfl)
theorem dX1_gate_39 : decode cX1_gate 39 = .ok (.iconst 1, 1) := dk_4 (dk_at dksX1_gate_1 15 rfl rfl)
theorem dX1_gate_40 : decode cX1_gate 40 = .ok (.goto 4, 3) := dk_167 0 4 (dk_at dksX1_gate_1 16 rfl rfl)
theorem dX1_gate_43 : decode cX1_gate 43 = .ok (.iconst 0, 1) := dk_3 (dk_at dksX1_gate_1 19 rfl rfl)
theorem dX1_gate_44 : decode cX1_gate 44 = .ok (.invokestatic 200, 3) := dk_184 0 200 (dk_at dksX1_gate_1 20 rfl rfl)
theorem dX1_gate_47 : decode cX1_gate 47 = .ok (.aload_n 0, 1) := dk_42 (dk_at dksX1_gate_1 23 rfl rfl)
theorem dX1_gate_48 : decode cX1_gate 48 = .ok (.getfield 12, 3) := dk_180 0 12 (dk_at dksX1_gate_2 0 rfl rfl)
theorem dX1_gate_51 : decode cX1_gate 51 = .ok (.getfield 95, 3) := dk_180 0 95 (dk_at dksX1_gate_2 3 rfl rfl)
theorem dX1_gate_54 : decode cX1_gate 54 = .ok (.astore 4, 2) := dk_58 4 (dk_at dksX1_gate_2 6 rfl rfl)
theorem dX1_gate_56 : decode cX1_gate 56 = .ok (.aload_n 0, 1) := dk_42 (dk_at dksX1_gate_2 8 rfl rfl)
theorem dX1_gate_57 : decode cX1_gate 57 = .ok (.invokevirtual 210, 3) := dk_182 0 210 (dk_at dksX1_gate_2 9 rfl rfl)
theorem dX1_gate_60 : decode cX1_gate 60 = .ok (.aload_n 0, 1) := dk_42 (dk_at dksX1_gate_2 12 rfl rfl)
theorem dX1_gate_61 : decode cX1_gate 61 = .ok (.getfield 12, 3) := dk_180 0 12 (dk_at dksX1_gate_2 13 rfl rfl)
theorem dX1_gate_64 : decode cX1_gate 64 = .ok (.iload_n 1, 1) := dk_27 (dk_at dksX1_gate_2 16 rfl rfl)
theorem dX1_gate_65 : decode cX1_gate 65 = .ok (.iload_n 2, 1) := dk_28 (dk_at dksX1_gate_2 17 rfl rfl)
theorem dX1_gate_66 : decode cX1_gate 66 = .ok (.iload_n 1, 1) := dk_27 (dk_at dksX1_gate_2 18 rfl rfl)
theorem dX1_gate_67 : decode cX1_gate 67 = .ok (.invokestatic 206, 3) := dk_184 0 206 (dk_at dksX1_gate_2 19 rfl rfl)
theorem dX1_gate_70 : decode cX1_gate 70 = .ok (.ifCond .eq 7, 3) := dk_153 0 7 (dk_at dksX1_gate_3 0 rfl rfl)
theorem dX1_gate_73 : decode cX1_gate 73 = .ok (.iload_n 3, 1) := dk_29 (dk_at dksX1_gate_3 3 rfl rfl)
theorem dX1_gate_74 : decode cX1_gate 74 = .ok (.goto 4, 3) := dk_167 0 4 (dk_at dksX1_gate_3 4 rfl rfl)
theorem dX1_gate_77 : decode cX1_gate 77 = .ok (.iconst (-1), 1) := dk_2 (dk_at dksX1_gate_3 7 rfl rfl)
theorem dX1_gate_78 : decode cX1_gate 78 = .ok (.invokevirtual 213, 3) := dk_182 0 213 (dk_at dksX1_gate_3 8 rfl rfl)
theorem dX1_gate_81 : decode cX1_gate 81 = .ok (.aload_n 0, 1) := dk_42 (dk_at dksX1_gate_3 11 rfl rfl)
theorem dX1_gate_82 : decode cX1_gate 82 = .ok (.getfield 12, 3) := dk_180 0 12 (dk_at dksX1_gate_3 12 rfl rfl)
theorem dX1_gate_85 : decode cX1_gate 85 = .ok (.getfield 95, 3) := dk_180 0 95 (dk_at dksX1_gate_3 15 rfl rfl)
theorem dX1_gate_88 : decode cX1_gate 88 = .ok (.aload 4, 2) := dk_25 4 (dk_at dksX1_gate_3 18 rfl rfl)
theorem dX1_gate_90 : decode cX1_gate 90 = .ok (.invokevirtual 217, 3) := dk_182 0 217 (dk_at dksX1_gate_3 20 rfl rfl)
theorem dX1_gate_93 : decode cX1_gate 93 = .ok (.ireturn, 1) := dk_172 (dk_at dksX1_gate_3 23 rfl rfl)
abbrev cX1_checkQubit : ByteArray := prog_1_method_25_code
def yX1_checkQubit : MethodName := ⟨RX1, "checkQubit", "(I)V"⟩
def dkwX1_checkQubit_0 : List UInt8 := [27, 3, 42, 182, 0, 173, 4, 100, 184, 0, 88, 184, 0, 188, 177]
abbrev dktX1_checkQubit_0 : List UInt8 := dkwX1_checkQubit_0 ++ []
theorem dksX1_checkQubit_0 : cX1_checkQubit.data.toList.drop 0 = dktX1_checkQubit_0 := by decide +kernel
theorem dX1_checkQubit_0 : decode cX1_checkQubit 0 = .ok (.iload_n 1, 1) := dk_27 (dk_at dksX1_checkQubit_0 0 rfl rfl)
theorem dX1_checkQubit_1 : decode cX1_checkQubit 1 = .ok (.iconst 0, 1) := dk_3 (dk_at dksX1_checkQubit_0 1 rfl rfl)
theorem dX1_checkQubit_2 : decode cX1_checkQubit 2 = .ok (.aload_n 0, 1) := dk_42 (dk_at dksX1_checkQubit_0 2 rfl rfl)
theorem dX1_checkQubit_3 : decode cX1_checkQubit 3 = .ok (.invokevirtual 173, 3) := dk_182 0 173 (dk_at dksX1_checkQubit_0 3 rfl rfl)
theorem dX1_checkQubit_6 : decode cX1_checkQubit 6 = .ok (.iconst 1, 1) := dk_4 (dk_at dksX1_checkQubit_0 6 rfl rfl)
theorem dX1_checkQubit_7 : decode cX1_checkQubit 7 = .ok (.isub, 1) := dk_100 (dk_at dksX1_checkQubit_0 7 rfl rfl)
theorem dX1_checkQubit_8 : decode cX1_checkQubit 8 = .ok (.invokestatic 88, 3) := dk_184 0 88 (dk_at dksX1_checkQubit_0 8 rfl rfl)
theorem dX1_checkQubit_11 : decode cX1_checkQubit 11 = .ok (.invokestatic 188, 3) := dk_184 0 188 (dk_at dksX1_checkQubit_0 11 rfl rfl)
theorem dX1_checkQubit_14 : decode cX1_checkQubit 14 = .ok (.return_, 1) := dk_177 (dk_at dksX1_checkQubit_0 14 rfl rfl)
abbrev cX1_checkArgument : ByteArray := prog_1_method_4_code
def yX1_checkArgument : MethodName := ⟨RX1, "checkArgument", "(Z)V"⟩
def dkwX1_checkArgument_0 : List UInt8 := [26, 154, 0, 11, 187, 0, 56, 89, 183, 0, 58, 191, 177]
abbrev dktX1_checkArgument_0 : List UInt8 := dkwX1_checkArgument_0 ++ []
theorem dksX1_checkArgument_0 : cX1_checkArgument.data.toList.drop 0 = dktX1_checkArgument_0 := by decide +kernel
theorem dX1_checkArgument_0 : decode cX1_checkArgument 0 = .ok (.iload_n 0, 1) := dk_26 (dk_at dksX1_checkArgument_0 0 rfl rfl)
theorem dX1_checkArgument_1 : decode cX1_checkArgument 1 = .ok (.ifCond .ne 11, 3) := dk_154 0 11 (dk_at dksX1_checkArgument_0 1 rfl rfl)
theorem dX1_checkArgument_4 : decode cX1_checkArgument 4 = .ok (.new 56, 3) := dk_187 0 56 (dk_at dksX1_checkArgument_0 4 rfl rfl)
theorem dX1_checkArgument_7 : decode cX1_checkArgument 7 = .ok (.dup, 1) := dk_89 (dk_at dksX1_checkArgument_0 7 rfl rfl)
theorem dX1_checkArgument_8 : decode cX1_checkArgument 8 = .ok (.invokespecial 58, 3) := dk_183 0 58 (dk_at dksX1_checkArgument_0 8 rfl rfl)
theorem dX1_checkArgument_11 : decode cX1_checkArgument 11 = .ok (.athrow, 1) := dk_191 (dk_at dksX1_checkArgument_0 11 rfl rfl)
theorem dX1_checkArgument_12 : decode cX1_checkArgument 12 = .ok (.return_, 1) := dk_177 (dk_at dksX1_checkArgument_0 12 rfl rfl)
abbrev cX1_measure : ByteArray := prog_1_method_28_code
def yX1_measure : MethodName := ⟨RX1, "measure", "(IIZI)I"⟩
def dkwX1_measure_3 : List UInt8 := [182, 0, 236, 172]
abbrev dktX1_measure_3 : List UInt8 := dkwX1_measure_3 ++ []
def dkwX1_measure_2 : List UInt8 := [25, 5, 21, 4, 182, 0, 229, 184, 0, 233, 42, 182, 0, 210, 42, 180, 0, 12, 25, 5, 21, 4]
abbrev dktX1_measure_2 : List UInt8 := dkwX1_measure_2 ++ dktX1_measure_3
def dkwX1_measure_1 : List UInt8 := [167, 0, 4, 3, 184, 0, 200, 187, 0, 224, 89, 27, 28, 29, 183, 0, 226, 58, 5, 42, 180, 0, 12]
abbrev dktX1_measure_1 : List UInt8 := dkwX1_measure_1 ++ dktX1_measure_2
def dkwX1_measure_0 : List UInt8 := [42, 27, 28, 182, 0, 221, 27, 28, 128, 153, 0, 17, 21, 4, 2, 4, 184, 0, 88, 153, 0, 7, 4]
abbrev dktX1_measure_0 : List UInt8 := dkwX1_measure_0 ++ dktX1_measure_1
theorem dksX1_measure_0 : cX1_measure.data.toList.drop 0 = dktX1_measure_0 := by decide +kernel
theorem dksX1_measure_1 : cX1_measure.data.toList.drop 23 = dktX1_measure_1 := dk_seg dksX1_measure_0 23 rfl rfl
theorem dksX1_measure_2 : cX1_measure.data.toList.drop 46 = dktX1_measure_2 := dk_seg dksX1_measure_1 23 rfl rfl
theorem dksX1_measure_3 : cX1_measure.data.toList.drop 68 = dktX1_measure_3 := dk_seg dksX1_measure_2 22 rfl rfl
theorem dX1_measure_0 : decode cX1_measure 0 = .ok (.aload_n 0, 1) := dk_42 (dk_at dksX1_measure_0 0 rfl rfl)
theorem dX1_measure_1 : decode cX1_measure 1 = .ok (.iload_n 1, 1) := dk_27 (dk_at dksX1_measure_0 1 rfl rfl)
theorem dX1_measure_2 : decode cX1_measure 2 = .ok (.iload_n 2, 1) := dk_28 (dk_at dksX1_measure_0 2 rfl rfl)
theorem dX1_measure_3 : decode cX1_measure 3 = .ok (.invokevirtual 221, 3) := dk_182 0 221 (dk_at dksX1_measure_0 3 rfl rfl)
theorem dX1_measure_6 : decode cX1_measure 6 = .ok (.iload_n 1, 1) := dk_27 (dk_at dksX1_measure_0 6 rfl rfl)
theorem dX1_measure_7 : decode cX1_measure 7 = .ok (.iload_n 2, 1) := dk_28 (dk_at dksX1_measure_0 7 rfl rfl)
theorem dX1_measure_8 : decode cX1_measure 8 = .ok (.ior, 1) := dk_128 (dk_at dksX1_measure_0 8 rfl rfl)
theorem dX1_measure_9 : decode cX1_measure 9 = .ok (.ifCond .eq 17, 3) := dk_153 0 17 (dk_at dksX1_measure_0 9 rfl rfl)
theorem dX1_measure_12 : decode cX1_measure 12 = .ok (.iload 4, 2) := dk_21 4 (dk_at dksX1_measure_0 12 rfl rfl)
theorem dX1_measure_14 : decode cX1_measure 14 = .ok (.iconst (-1), 1) := dk_2 (dk_at dksX1_measure_0 14 rfl rfl)
theorem dX1_measure_15 : decode cX1_measure 15 = .ok (.iconst 1, 1) := dk_4 (dk_at dksX1_measure_0 15 rfl rfl)
theorem dX1_measure_16 : decode cX1_measure 16 = .ok (.invokestatic 88, 3) := dk_184 0 88 (dk_at dksX1_measure_0 16 rfl rfl)
theorem dX1_measure_19 : decode cX1_measure 19 = .ok (.ifCond .eq 7, 3) := dk_153 0 7 (dk_at dksX1_measure_0 19 rfl rfl)
theorem dX1_measure_22 : decode cX1_measure 22 = .ok (.iconst 1, 1) := dk_4 (dk_at dksX1_measure_0 22 rfl rfl)
theorem dX1_measure_23 : decode cX1_measure 23 = .ok (.goto 4, 3) := dk_167 0 4 (dk_at dksX1_measure_1 0 rfl rfl)
theorem dX1_measure_26 : decode cX1_measure 26 = .ok (.iconst 0, 1) := dk_3 (dk_at dksX1_measure_1 3 rfl rfl)
theorem dX1_measure_27 : decode cX1_measure 27 = .ok (.invokestatic 200, 3) := dk_184 0 200 (dk_at dksX1_measure_1 4 rfl rfl)
theorem dX1_measure_30 : decode cX1_measure 30 = .ok (.new 224, 3) := dk_187 0 224 (dk_at dksX1_measure_1 7 rfl rfl)
theorem dX1_measure_33 : decode cX1_measure 33 = .ok (.dup, 1) := dk_89 (dk_at dksX1_measure_1 10 rfl rfl)
theorem dX1_measure_34 : decode cX1_measure 34 = .ok (.iload_n 1, 1) := dk_27 (dk_at dksX1_measure_1 11 rfl rfl)
theorem dX1_measure_35 : decode cX1_measure 35 = .ok (.iload_n 2, 1) := dk_28 (dk_at dksX1_measure_1 12 rfl rfl)
theorem dX1_measure_36 : decode cX1_measure 36 = .ok (.iload_n 3, 1) := dk_29 (dk_at dksX1_measure_1 13 rfl rfl)
theorem dX1_measure_37 : decode cX1_measure 37 = .ok (.invokespecial 226, 3) := dk_183 0 226 (dk_at dksX1_measure_1 14 rfl rfl)
theorem dX1_measure_40 : decode cX1_measure 40 = .ok (.astore 5, 2) := dk_58 5 (dk_at dksX1_measure_1 17 rfl rfl)
theorem dX1_measure_42 : decode cX1_measure 42 = .ok (.aload_n 0, 1) := dk_42 (dk_at dksX1_measure_1 19 rfl rfl)
theorem dX1_measure_43 : decode cX1_measure 43 = .ok (.getfield 12, 3) := dk_180 0 12 (dk_at dksX1_measure_1 20 rfl rfl)
theorem dX1_measure_46 : decode cX1_measure 46 = .ok (.aload 5, 2) := dk_25 5 (dk_at dksX1_measure_2 0 rfl rfl)
theorem dX1_measure_48 : decode cX1_measure 48 = .ok (.iload 4, 2) := dk_21 4 (dk_at dksX1_measure_2 2 rfl rfl)
theorem dX1_measure_50 : decode cX1_measure 50 = .ok (.invokevirtual 229, 3) := dk_182 0 229 (dk_at dksX1_measure_2 4 rfl rfl)
theorem dX1_measure_53 : decode cX1_measure 53 = .ok (.invokestatic 233, 3) := dk_184 0 233 (dk_at dksX1_measure_2 7 rfl rfl)
theorem dX1_measure_56 : decode cX1_measure 56 = .ok (.aload_n 0, 1) := dk_42 (dk_at dksX1_measure_2 10 rfl rfl)
theorem dX1_measure_57 : decode cX1_measure 57 = .ok (.invokevirtual 210, 3) := dk_182 0 210 (dk_at dksX1_measure_2 11 rfl rfl)
theorem dX1_measure_60 : decode cX1_measure 60 = .ok (.aload_n 0, 1) := dk_42 (dk_at dksX1_measure_2 14 rfl rfl)
theorem dX1_measure_61 : decode cX1_measure 61 = .ok (.getfield 12, 3) := dk_180 0 12 (dk_at dksX1_measure_2 15 rfl rfl)
theorem dX1_measure_64 : decode cX1_measure 64 = .ok (.aload 5, 2) := dk_25 5 (dk_at dksX1_measure_2 18 rfl rfl)
theorem dX1_measure_66 : decode cX1_measure 66 = .ok (.iload 4, 2) := dk_21 4 (dk_at dksX1_measure_2 20 rfl rfl)
theorem dX1_measure_68 : decode cX1_measure 68 = .ok (.invokevirtual 236, 3) := dk_182 0 236 (dk_at dksX1_measure_3 0 rfl rfl)
theorem dX1_measure_71 : decode cX1_measure 71 = .ok (.ireturn, 1) := dk_172 (dk_at dksX1_measure_3 3 rfl rfl)
abbrev cX1_checkMasks : ByteArray := prog_1_method_26_code
def yX1_checkMasks : MethodName := ⟨RX1, "checkMasks", "(II)V"⟩
def dkwX1_checkMasks_1 : List UInt8 := [184, 0, 200, 177]
abbrev dktX1_checkMasks_1 : List UInt8 := dkwX1_checkMasks_1 ++ []
def dkwX1_checkMasks_0 : List UInt8 := [27, 155, 0, 22, 28, 155, 0, 18, 27, 28, 128, 42, 182, 0, 173, 122, 154, 0, 7, 4, 167, 0, 4, 3]
abbrev dktX1_checkMasks_0 : List UInt8 := dkwX1_checkMasks_0 ++ dktX1_checkMasks_1
theorem dksX1_checkMasks_0 : cX1_checkMasks.data.toList.drop 0 = dktX1_checkMasks_0 := by decide +kernel
theorem dksX1_checkMasks_1 : cX1_checkMasks.data.toList.drop 24 = dktX1_checkMasks_1 := dk_seg dksX1_checkMasks_0 24 rfl rfl
theorem dX1_checkMasks_0 : decode cX1_checkMasks 0 = .ok (.iload_n 1, 1) := dk_27 (dk_at dksX1_checkMasks_0 0 rfl rfl)
theorem dX1_checkMasks_1 : decode cX1_checkMasks 1 = .ok (.ifCond .lt 22, 3) := dk_155 0 22 (dk_at dksX1_checkMasks_0 1 rfl rfl)
theorem dX1_checkMasks_4 : decode cX1_checkMasks 4 = .ok (.iload_n 2, 1) := dk_28 (dk_at dksX1_checkMasks_0 4 rfl rfl)
theorem dX1_checkMasks_5 : decode cX1_checkMasks 5 = .ok (.ifCond .lt 18, 3) := dk_155 0 18 (dk_at dksX1_checkMasks_0 5 rfl rfl)
theorem dX1_checkMasks_8 : decode cX1_checkMasks 8 = .ok (.iload_n 1, 1) := dk_27 (dk_at dksX1_checkMasks_0 8 rfl rfl)
theorem dX1_checkMasks_9 : decode cX1_checkMasks 9 = .ok (.iload_n 2, 1) := dk_28 (dk_at dksX1_checkMasks_0 9 rfl rfl)
theorem dX1_checkMasks_10 : decode cX1_checkMasks 10 = .ok (.ior, 1) := dk_128 (dk_at dksX1_checkMasks_0 10 rfl rfl)
theorem dX1_checkMasks_11 : decode cX1_checkMasks 11 = .ok (.aload_n 0, 1) := dk_42 (dk_at dksX1_checkMasks_0 11 rfl rfl)
theorem dX1_checkMasks_12 : decode cX1_checkMasks 12 = .ok (.invokevirtual 173, 3) := dk_182 0 173 (dk_at dksX1_checkMasks_0 12 rfl rfl)
theorem dX1_checkMasks_15 : decode cX1_checkMasks 15 = .ok (.ishr, 1) := dk_122 (dk_at dksX1_checkMasks_0 15 rfl rfl)
theorem dX1_checkMasks_16 : decode cX1_checkMasks 16 = .ok (.ifCond .ne 7, 3) := dk_154 0 7 (dk_at dksX1_checkMasks_0 16 rfl rfl)
theorem dX1_checkMasks_19 : decode cX1_checkMasks 19 = .ok (.iconst 1, 1) := dk_4 (dk_at dksX1_checkMasks_0 19 rfl rfl)
theorem dX1_checkMasks_20 : decode cX1_checkMasks 20 = .ok (.goto 4, 3) := dk_167 0 4 (dk_at dksX1_checkMasks_0 20 rfl rfl)
theorem dX1_checkMasks_23 : decode cX1_checkMasks 23 = .ok (.iconst 0, 1) := dk_3 (dk_at dksX1_checkMasks_0 23 rfl rfl)
theorem dX1_checkMasks_24 : decode cX1_checkMasks 24 = .ok (.invokestatic 200, 3) := dk_184 0 200 (dk_at dksX1_checkMasks_1 0 rfl rfl)
theorem dX1_checkMasks_27 : decode cX1_checkMasks 27 = .ok (.return_, 1) := dk_177 (dk_at dksX1_checkMasks_1 3 rfl rfl)
abbrev cX1_checkState : ByteArray := prog_1_method_5_code
def yX1_checkState : MethodName := ⟨RX1, "checkState", "(Z)V"⟩
def dkwX1_checkState_0 : List UInt8 := [26, 154, 0, 11, 187, 0, 59, 89, 183, 0, 61, 191, 177]
abbrev dktX1_checkState_0 : List UInt8 := dkwX1_checkState_0 ++ []
theorem dksX1_checkState_0 : cX1_checkState.data.toList.drop 0 = dktX1_checkState_0 := by decide +kernel
theorem dX1_checkState_0 : decode cX1_checkState 0 = .ok (.iload_n 0, 1) := dk_26 (dk_at dksX1_checkState_0 0 rfl rfl)
theorem dX1_checkState_1 : decode cX1_checkState 1 = .ok (.ifCond .ne 11, 3) := dk_154 0 11 (dk_at dksX1_checkState_0 1 rfl rfl)
theorem dX1_checkState_4 : decode cX1_checkState 4 = .ok (.new 59, 3) := dk_187 0 59 (dk_at dksX1_checkState_0 4 rfl rfl)
theorem dX1_checkState_7 : decode cX1_checkState 7 = .ok (.dup, 1) := dk_89 (dk_at dksX1_checkState_0 7 rfl rfl)
theorem dX1_checkState_8 : decode cX1_checkState 8 = .ok (.invokespecial 61, 3) := dk_183 0 61 (dk_at dksX1_checkState_0 8 rfl rfl)
theorem dX1_checkState_11 : decode cX1_checkState 11 = .ok (.athrow, 1) := dk_191 (dk_at dksX1_checkState_0 11 rfl rfl)
theorem dX1_checkState_12 : decode cX1_checkState 12 = .ok (.return_, 1) := dk_177 (dk_at dksX1_checkState_0 12 rfl rfl)
abbrev cX1_measureAll : ByteArray := prog_1_method_29_code
def yX1_measureAll : MethodName := ⟨RX1, "measureAll", "()I"⟩
def dkwX1_measureAll_3 : List UInt8 := [4, 28, 120, 128, 60, 132, 2, 1, 167, 255, 215, 27, 172]
abbrev dktX1_measureAll_3 : List UInt8 := dkwX1_measureAll_3 ++ []
def dkwX1_measureAll_2 : List UInt8 := [180, 0, 12, 187, 0, 224, 89, 3, 4, 28, 120, 3, 183, 0, 226, 3, 182, 0, 236, 2, 160, 0, 9, 27]
abbrev dktX1_measureAll_2 : List UInt8 := dkwX1_measureAll_2 ++ dktX1_measureAll_3
def dkwX1_measureAll_1 : List UInt8 := [167, 0, 4, 3, 184, 0, 233, 42, 182, 0, 210, 3, 60, 3, 61, 28, 42, 182, 0, 173, 162, 0, 39, 42]
abbrev dktX1_measureAll_1 : List UInt8 := dkwX1_measureAll_1 ++ dktX1_measureAll_2
def dkwX1_measureAll_0 : List UInt8 := [42, 180, 0, 12, 180, 0, 160, 185, 0, 149, 1, 0, 42, 182, 0, 173, 96, 16, 100, 163, 0, 7, 4]
abbrev dktX1_measureAll_0 : List UInt8 := dkwX1_measureAll_0 ++ dktX1_measureAll_1
theorem dksX1_measureAll_0 : cX1_measureAll.data.toList.drop 0 = dktX1_measureAll_0 := by decide +kernel
theorem dksX1_measureAll_1 : cX1_measureAll.data.toList.drop 23 = dktX1_measureAll_1 := dk_seg dksX1_measureAll_0 23 rfl rfl
theorem dksX1_measureAll_2 : cX1_measureAll.data.toList.drop 47 = dktX1_measureAll_2 := dk_seg dksX1_measureAll_1 24 rfl rfl
theorem dksX1_measureAll_3 : cX1_measureAll.data.toList.drop 71 = dktX1_measureAll_3 := dk_seg dksX1_measureAll_2 24 rfl rfl
theorem dX1_measureAll_0 : decode cX1_measureAll 0 = .ok (.aload_n 0, 1) := dk_42 (dk_at dksX1_measureAll_0 0 rfl rfl)
theorem dX1_measureAll_1 : decode cX1_measureAll 1 = .ok (.getfield 12, 3) := dk_180 0 12 (dk_at dksX1_measureAll_0 1 rfl rfl)
theorem dX1_measureAll_4 : decode cX1_measureAll 4 = .ok (.getfield 160, 3) := dk_180 0 160 (dk_at dksX1_measureAll_0 4 rfl rfl)
theorem dX1_measureAll_7 : decode cX1_measureAll 7 = .ok (.invokeinterface 149 1, 5) := by decide +kernel
theorem dX1_measureAll_12 : decode cX1_measureAll 12 = .ok (.aload_n 0, 1) := dk_42 (dk_at dksX1_measureAll_0 12 rfl rfl)
theorem dX1_measureAll_13 : decode cX1_measureAll 13 = .ok (.invokevirtual 173, 3) := dk_182 0 173 (dk_at dksX1_measureAll_0 13 rfl rfl)
theorem dX1_measureAll_16 : decode cX1_measureAll 16 = .ok (.iadd, 1) := dk_96 (dk_at dksX1_measureAll_0 16 rfl rfl)
theorem dX1_measureAll_17 : decode cX1_measureAll 17 = .ok (.bipush 100, 2) := dk_16 100 (dk_at dksX1_measureAll_0 17 rfl rfl)
theorem dX1_measureAll_19 : decode cX1_measureAll 19 = .ok (.if_icmp .gt 7, 3) := dk_163 0 7 (dk_at dksX1_measureAll_0 19 rfl rfl)
theorem dX1_measureAll_22 : decode cX1_measureAll 22 = .ok (.iconst 1, 1) := dk_4 (dk_at dksX1_measureAll_0 22 rfl rfl)
theorem dX1_measureAll_23 : decode cX1_measureAll 23 = .ok (.goto 4, 3) := dk_167 0 4 (dk_at dksX1_measureAll_1 0 rfl rfl)
theorem dX1_measureAll_26 : decode cX1_measureAll 26 = .ok (.iconst 0, 1) := dk_3 (dk_at dksX1_measureAll_1 3 rfl rfl)
theorem dX1_measureAll_27 : decode cX1_measureAll 27 = .ok (.invokestatic 233, 3) := dk_184 0 233 (dk_at dksX1_measureAll_1 4 rfl rfl)
theorem dX1_measureAll_30 : decode cX1_measureAll 30 = .ok (.aload_n 0, 1) := dk_42 (dk_at dksX1_measureAll_1 7 rfl rfl)
theorem dX1_measureAll_31 : decode cX1_measureAll 31 = .ok (.invokevirtual 210, 3) := dk_182 0 210 (dk_at dksX1_measureAll_1 8 rfl rfl)
theorem dX1_measureAll_34 : decode cX1_measureAll 34 = .ok (.iconst 0, 1) := dk_3 (dk_at dksX1_measureAll_1 11 rfl rfl)
theorem dX1_measureAll_35 : decode cX1_measureAll 35 = .ok (.istore_n 1, 1) := dk_60 (dk_at dksX1_measureAll_1 12 rfl rfl)
theorem dX1_measureAll_36 : decode cX1_measureAll 36 = .ok (.iconst 0, 1) := dk_3 (dk_at dksX1_measureAll_1 13 rfl rfl)
theorem dX1_measureAll_37 : decode cX1_measureAll 37 = .ok (.istore_n 2, 1) := dk_61 (dk_at dksX1_measureAll_1 14 rfl rfl)
theorem dX1_measureAll_38 : decode cX1_measureAll 38 = .ok (.iload_n 2, 1) := dk_28 (dk_at dksX1_measureAll_1 15 rfl rfl)
theorem dX1_measureAll_39 : decode cX1_measureAll 39 = .ok (.aload_n 0, 1) := dk_42 (dk_at dksX1_measureAll_1 16 rfl rfl)
theorem dX1_measureAll_40 : decode cX1_measureAll 40 = .ok (.invokevirtual 173, 3) := dk_182 0 173 (dk_at dksX1_measureAll_1 17 rfl rfl)
theorem dX1_measureAll_43 : decode cX1_measureAll 43 = .ok (.if_icmp .ge 39, 3) := dk_162 0 39 (dk_at dksX1_measureAll_1 20 rfl rfl)
theorem dX1_measureAll_46 : decode cX1_measureAll 46 = .ok (.aload_n 0, 1) := dk_42 (dk_at dksX1_measureAll_1 23 rfl rfl)
theorem dX1_measureAll_47 : decode cX1_measureAll 47 = .ok (.getfield 12, 3) := dk_180 0 12 (dk_at dksX1_measureAll_2 0 rfl rfl)
theorem dX1_measureAll_50 : decode cX1_measureAll 50 = .ok (.new 224, 3) := dk_187 0 224 (dk_at dksX1_measureAll_2 3 rfl rfl)
theorem dX1_measureAll_53 : decode cX1_measureAll 53 = .ok (.dup, 1) := dk_89 (dk_at dksX1_measureAll_2 6 rfl rfl)
theorem dX1_measureAll_54 : decode cX1_measureAll 54 = .ok (.iconst 0, 1) := dk_3 (dk_at dksX1_measureAll_2 7 rfl rfl)
theorem dX1_measureAll_55 : decode cX1_measureAll 55 = .ok (.iconst 1, 1) := dk_4 (dk_at dksX1_measureAll_2 8 rfl rfl)
theorem dX1_measureAll_56 : decode cX1_measureAll 56 = .ok (.iload_n 2, 1) := dk_28 (dk_at dksX1_measureAll_2 9 rfl rfl)
theorem dX1_measureAll_57 : decode cX1_measureAll 57 = .ok (.ishl, 1) := dk_120 (dk_at dksX1_measureAll_2 10 rfl rfl)
theorem dX1_measureAll_58 : decode cX1_measureAll 58 = .ok (.iconst 0, 1) := dk_3 (dk_at dksX1_measureAll_2 11 rfl rfl)
theorem dX1_measureAll_59 : decode cX1_measureAll 59 = .ok (.invokespecial 226, 3) := dk_183 0 226 (dk_at dksX1_measureAll_2 12 rfl rfl)
theorem dX1_measureAll_62 : decode cX1_measureAll 62 = .ok (.iconst 0, 1) := dk_3 (dk_at dksX1_measureAll_2 15 rfl rfl)
theorem dX1_measureAll_63 : decode cX1_measureAll 63 = .ok (.invokevirtual 236, 3) := dk_182 0 236 (dk_at dksX1_measureAll_2 16 rfl rfl)
theorem dX1_measureAll_66 : decode cX1_measureAll 66 = .ok (.iconst (-1), 1) := dk_2 (dk_at dksX1_measureAll_2 19 rfl rfl)
theorem dX1_measureAll_67 : decode cX1_measureAll 67 = .ok (.if_icmp .ne 9, 3) := dk_160 0 9 (dk_at dksX1_measureAll_2 20 rfl rfl)
theorem dX1_measureAll_70 : decode cX1_measureAll 70 = .ok (.iload_n 1, 1) := dk_27 (dk_at dksX1_measureAll_2 23 rfl rfl)
theorem dX1_measureAll_71 : decode cX1_measureAll 71 = .ok (.iconst 1, 1) := dk_4 (dk_at dksX1_measureAll_3 0 rfl rfl)
theorem dX1_measureAll_72 : decode cX1_measureAll 72 = .ok (.iload_n 2, 1) := dk_28 (dk_at dksX1_measureAll_3 1 rfl rfl)
theorem dX1_measureAll_73 : decode cX1_measureAll 73 = .ok (.ishl, 1) := dk_120 (dk_at dksX1_measureAll_3 2 rfl rfl)
theorem dX1_measureAll_74 : decode cX1_measureAll 74 = .ok (.ior, 1) := dk_128 (dk_at dksX1_measureAll_3 3 rfl rfl)
theorem dX1_measureAll_75 : decode cX1_measureAll 75 = .ok (.istore_n 1, 1) := dk_60 (dk_at dksX1_measureAll_3 4 rfl rfl)
theorem dX1_measureAll_76 : decode cX1_measureAll 76 = .ok (.iinc 2 1, 3) := dk_132 2 1 (dk_at dksX1_measureAll_3 5 rfl rfl)
theorem dX1_measureAll_79 : decode cX1_measureAll 79 = .ok (.goto (-41), 3) := dk_167 255 215 (dk_at dksX1_measureAll_3 8 rfl rfl)
theorem dX1_measureAll_82 : decode cX1_measureAll 82 = .ok (.iload_n 1, 1) := dk_27 (dk_at dksX1_measureAll_3 11 rfl rfl)
theorem dX1_measureAll_83 : decode cX1_measureAll 83 = .ok (.ireturn, 1) := dk_172 (dk_at dksX1_measureAll_3 12 rfl rfl)
abbrev cX1_run : ByteArray := prog_1_method_33_code
def yX1_run : MethodName := ⟨RX1, "run", "(I)I"⟩
def dkwX1_run_2 : List UInt8 := [28, 172]
abbrev dktX1_run_2 : List UInt8 := dkwX1_run_2 ++ []
def dkwX1_run_1 : List UInt8 := [61, 28, 27, 162, 0, 21, 42, 182, 0, 247, 153, 0, 14, 42, 182, 0, 250, 87, 132, 2, 1, 167, 255, 236]
abbrev dktX1_run_1 : List UInt8 := dkwX1_run_1 ++ dktX1_run_2
def dkwX1_run_0 : List UInt8 := [27, 4, 16, 60, 184, 0, 88, 184, 0, 200, 42, 182, 0, 247, 154, 0, 5, 3, 172, 42, 182, 0, 210, 3]
abbrev dktX1_run_0 : List UInt8 := dkwX1_run_0 ++ dktX1_run_1
theorem dksX1_run_0 : cX1_run.data.toList.drop 0 = dktX1_run_0 := by decide +kernel
theorem dksX1_run_1 : cX1_run.data.toList.drop 24 = dktX1_run_1 := dk_seg dksX1_run_0 24 rfl rfl
theorem dksX1_run_2 : cX1_run.data.toList.drop 48 = dktX1_run_2 := dk_seg dksX1_run_1 24 rfl rfl
theorem dX1_run_0 : decode cX1_run 0 = .ok (.iload_n 1, 1) := dk_27 (dk_at dksX1_run_0 0 rfl rfl)
theorem dX1_run_1 : decode cX1_run 1 = .ok (.iconst 1, 1) := dk_4 (dk_at dksX1_run_0 1 rfl rfl)
theorem dX1_run_2 : decode cX1_run 2 = .ok (.bipush 60, 2) := dk_16 60 (dk_at dksX1_run_0 2 rfl rfl)
theorem dX1_run_4 : decode cX1_run 4 = .ok (.invokestatic 88, 3) := dk_184 0 88 (dk_at dksX1_run_0 4 rfl rfl)
theorem dX1_run_7 : decode cX1_run 7 = .ok (.invokestatic 200, 3) := dk_184 0 200 (dk_at dksX1_run_0 7 rfl rfl)
theorem dX1_run_10 : decode cX1_run 10 = .ok (.aload_n 0, 1) := dk_42 (dk_at dksX1_run_0 10 rfl rfl)
theorem dX1_run_11 : decode cX1_run 11 = .ok (.invokevirtual 247, 3) := dk_182 0 247 (dk_at dksX1_run_0 11 rfl rfl)
theorem dX1_run_14 : decode cX1_run 14 = .ok (.ifCond .ne 5, 3) := dk_154 0 5 (dk_at dksX1_run_0 14 rfl rfl)
theorem dX1_run_17 : decode cX1_run 17 = .ok (.iconst 0, 1) := dk_3 (dk_at dksX1_run_0 17 rfl rfl)
theorem dX1_run_18 : decode cX1_run 18 = .ok (.ireturn, 1) := dk_172 (dk_at dksX1_run_0 18 rfl rfl)
theorem dX1_run_19 : decode cX1_run 19 = .ok (.aload_n 0, 1) := dk_42 (dk_at dksX1_run_0 19 rfl rfl)
theorem dX1_run_20 : decode cX1_run 20 = .ok (.invokevirtual 210, 3) := dk_182 0 210 (dk_at dksX1_run_0 20 rfl rfl)
theorem dX1_run_23 : decode cX1_run 23 = .ok (.iconst 0, 1) := dk_3 (dk_at dksX1_run_0 23 rfl rfl)
theorem dX1_run_24 : decode cX1_run 24 = .ok (.istore_n 2, 1) := dk_61 (dk_at dksX1_run_1 0 rfl rfl)
theorem dX1_run_25 : decode cX1_run 25 = .ok (.iload_n 2, 1) := dk_28 (dk_at dksX1_run_1 1 rfl rfl)
theorem dX1_run_26 : decode cX1_run 26 = .ok (.iload_n 1, 1) := dk_27 (dk_at dksX1_run_1 2 rfl rfl)
theorem dX1_run_27 : decode cX1_run 27 = .ok (.if_icmp .ge 21, 3) := dk_162 0 21 (dk_at dksX1_run_1 3 rfl rfl)
theorem dX1_run_30 : decode cX1_run 30 = .ok (.aload_n 0, 1) := dk_42 (dk_at dksX1_run_1 6 rfl rfl)
theorem dX1_run_31 : decode cX1_run 31 = .ok (.invokevirtual 247, 3) := dk_182 0 247 (dk_at dksX1_run_1 7 rfl rfl)
theorem dX1_run_34 : decode cX1_run 34 = .ok (.ifCond .eq 14, 3) := dk_153 0 14 (dk_at dksX1_run_1 10 rfl rfl)
theorem dX1_run_37 : decode cX1_run 37 = .ok (.aload_n 0, 1) := dk_42 (dk_at dksX1_run_1 13 rfl rfl)
theorem dX1_run_38 : decode cX1_run 38 = .ok (.invokevirtual 250, 3) := dk_182 0 250 (dk_at dksX1_run_1 14 rfl rfl)
theorem dX1_run_41 : decode cX1_run 41 = .ok (.pop, 1) := dk_87 (dk_at dksX1_run_1 17 rfl rfl)
theorem dX1_run_42 : decode cX1_run 42 = .ok (.iinc 2 1, 3) := dk_132 2 1 (dk_at dksX1_run_1 18 rfl rfl)
theorem dX1_run_45 : decode cX1_run 45 = .ok (.goto (-20), 3) := dk_167 255 236 (dk_at dksX1_run_1 21 rfl rfl)
theorem dX1_run_48 : decode cX1_run 48 = .ok (.iload_n 2, 1) := dk_28 (dk_at dksX1_run_2 0 rfl rfl)
theorem dX1_run_49 : decode cX1_run 49 = .ok (.ireturn, 1) := dk_172 (dk_at dksX1_run_2 1 rfl rfl)
abbrev cX1_reverse : ByteArray := prog_1_method_35_code
def yX1_reverse : MethodName := ⟨RX1, "reverse", "(I)I"⟩
def dkwX1_reverse_3 : List UInt8 := [5, 46, 182, 1, 5, 132, 2, 1, 167, 255, 215, 42, 180, 0, 12, 180, 0, 185, 182, 0, 103, 172]
abbrev dktX1_reverse_3 : List UInt8 := dkwX1_reverse_3 ++ []
def dkwX1_reverse_2 : List UInt8 := [180, 0, 185, 182, 0, 253, 192, 1, 0, 78, 42, 180, 0, 12, 45, 3, 46, 184, 1, 2, 45, 4, 46, 45]
abbrev dktX1_reverse_2 : List UInt8 := dkwX1_reverse_2 ++ dktX1_reverse_3
def dkwX1_reverse_1 : List UInt8 := [4, 167, 0, 4, 3, 184, 0, 233, 42, 182, 0, 210, 3, 61, 28, 27, 162, 0, 42, 42, 180, 0, 12]
abbrev dktX1_reverse_1 : List UInt8 := dkwX1_reverse_1 ++ dktX1_reverse_2
def dkwX1_reverse_0 : List UInt8 := [27, 4, 16, 80, 184, 0, 88, 184, 0, 200, 27, 42, 180, 0, 12, 180, 0, 185, 182, 0, 103, 163, 0, 7]
abbrev dktX1_reverse_0 : List UInt8 := dkwX1_reverse_0 ++ dktX1_reverse_1
theorem dksX1_reverse_0 : cX1_reverse.data.toList.drop 0 = dktX1_reverse_0 := by decide +kernel
theorem dksX1_reverse_1 : cX1_reverse.data.toList.drop 24 = dktX1_reverse_1 := dk_seg dksX1_reverse_0 24 rfl rfl
theorem dksX1_reverse_2 : cX1_reverse.data.toList.drop 47 = dktX1_reverse_2 := dk_seg dksX1_reverse_1 23 rfl rfl
theorem dksX1_reverse_3 : cX1_reverse.data.toList.drop 71 = dktX1_reverse_3 := dk_seg dksX1_reverse_2 24 rfl rfl
theorem dX1_reverse_0 : decode cX1_reverse 0 = .ok (.iload_n 1, 1) := dk_27 (dk_at dksX1_reverse_0 0 rfl rfl)
theorem dX1_reverse_1 : decode cX1_reverse 1 = .ok (.iconst 1, 1) := dk_4 (dk_at dksX1_reverse_0 1 rfl rfl)
theorem dX1_reverse_2 : decode cX1_reverse 2 = .ok (.bipush 80, 2) := dk_16 80 (dk_at dksX1_reverse_0 2 rfl rfl)
theorem dX1_reverse_4 : decode cX1_reverse 4 = .ok (.invokestatic 88, 3) := dk_184 0 88 (dk_at dksX1_reverse_0 4 rfl rfl)
theorem dX1_reverse_7 : decode cX1_reverse 7 = .ok (.invokestatic 200, 3) := dk_184 0 200 (dk_at dksX1_reverse_0 7 rfl rfl)
theorem dX1_reverse_10 : decode cX1_reverse 10 = .ok (.iload_n 1, 1) := dk_27 (dk_at dksX1_reverse_0 10 rfl rfl)
theorem dX1_reverse_11 : decode cX1_reverse 11 = .ok (.aload_n 0, 1) := dk_42 (dk_at dksX1_reverse_0 11 rfl rfl)
theorem dX1_reverse_12 : decode cX1_reverse 12 = .ok (.getfield 12, 3) := dk_180 0 12 (dk_at dksX1_reverse_0 12 rfl rfl)
theorem dX1_reverse_15 : decode cX1_reverse 15 = .ok (.getfield 185, 3) := dk_180 0 185 (dk_at dksX1_reverse_0 15 rfl rfl)
theorem dX1_reverse_18 : decode cX1_reverse 18 = .ok (.invokevirtual 103, 3) := dk_182 0 103 (dk_at dksX1_reverse_0 18 rfl rfl)
theorem dX1_reverse_21 : decode cX1_reverse 21 = .ok (.if_icmp .gt 7, 3) := dk_163 0 7 (dk_at dksX1_reverse_0 21 rfl rfl)
theorem dX1_reverse_24 : decode cX1_reverse 24 = .ok (.iconst 1, 1) := dk_4 (dk_at dksX1_reverse_1 0 rfl rfl)
theorem dX1_reverse_25 : decode cX1_reverse 25 = .ok (.goto 4, 3) := dk_167 0 4 (dk_at dksX1_reverse_1 1 rfl rfl)
theorem dX1_reverse_28 : decode cX1_reverse 28 = .ok (.iconst 0, 1) := dk_3 (dk_at dksX1_reverse_1 4 rfl rfl)
theorem dX1_reverse_29 : decode cX1_reverse 29 = .ok (.invokestatic 233, 3) := dk_184 0 233 (dk_at dksX1_reverse_1 5 rfl rfl)
theorem dX1_reverse_32 : decode cX1_reverse 32 = .ok (.aload_n 0, 1) := dk_42 (dk_at dksX1_reverse_1 8 rfl rfl)
theorem dX1_reverse_33 : decode cX1_reverse 33 = .ok (.invokevirtual 210, 3) := dk_182 0 210 (dk_at dksX1_reverse_1 9 rfl rfl)
theorem dX1_reverse_36 : decode cX1_reverse 36 = .ok (.iconst 0, 1) := dk_3 (dk_at dksX1_reverse_1 12 rfl rfl)
theorem dX1_reverse_37 : decode cX1_reverse 37 = .ok (.istore_n 2, 1) := dk_61 (dk_at dksX1_reverse_1 13 rfl rfl)
theorem dX1_reverse_38 : decode cX1_reverse 38 = .ok (.iload_n 2, 1) := dk_28 (dk_at dksX1_reverse_1 14 rfl rfl)
theorem dX1_reverse_39 : decode cX1_reverse 39 = .ok (.iload_n 1, 1) := dk_27 (dk_at dksX1_reverse_1 15 rfl rfl)
theorem dX1_reverse_40 : decode cX1_reverse 40 = .ok (.if_icmp .ge 42, 3) := dk_162 0 42 (dk_at dksX1_reverse_1 16 rfl rfl)
theorem dX1_reverse_43 : decode cX1_reverse 43 = .ok (.aload_n 0, 1) := dk_42 (dk_at dksX1_reverse_1 19 rfl rfl)
theorem dX1_reverse_44 : decode cX1_reverse 44 = .ok (.getfield 12, 3) := dk_180 0 12 (dk_at dksX1_reverse_1 20 rfl rfl)
theorem dX1_reverse_47 : decode cX1_reverse 47 = .ok (.getfield 185, 3) := dk_180 0 185 (dk_at dksX1_reverse_2 0 rfl rfl)
theorem dX1_reverse_50 : decode cX1_reverse 50 = .ok (.invokevirtual 253, 3) := dk_182 0 253 (dk_at dksX1_reverse_2 3 rfl rfl)
theorem dX1_reverse_53 : decode cX1_reverse 53 = .ok (.checkcast 256, 3) := dk_192 1 0 (dk_at dksX1_reverse_2 6 rfl rfl)
theorem dX1_reverse_56 : decode cX1_reverse 56 = .ok (.astore_n 3, 1) := dk_78 (dk_at dksX1_reverse_2 9 rfl rfl)
theorem dX1_reverse_57 : decode cX1_reverse 57 = .ok (.aload_n 0, 1) := dk_42 (dk_at dksX1_reverse_2 10 rfl rfl)
theorem dX1_reverse_58 : decode cX1_reverse 58 = .ok (.getfield 12, 3) := dk_180 0 12 (dk_at dksX1_reverse_2 11 rfl rfl)
theorem dX1_reverse_61 : decode cX1_reverse 61 = .ok (.aload_n 3, 1) := dk_45 (dk_at dksX1_reverse_2 14 rfl rfl)
theorem dX1_reverse_62 : decode cX1_reverse 62 = .ok (.iconst 0, 1) := dk_3 (dk_at dksX1_reverse_2 15 rfl rfl)
theorem dX1_reverse_63 : decode cX1_reverse 63 = .ok (.iaload, 1) := dk_46 (dk_at dksX1_reverse_2 16 rfl rfl)
theorem dX1_reverse_64 : decode cX1_reverse 64 = .ok (.invokestatic 258, 3) := dk_184 1 2 (dk_at dksX1_reverse_2 17 rfl rfl)
theorem dX1_reverse_67 : decode cX1_reverse 67 = .ok (.aload_n 3, 1) := dk_45 (dk_at dksX1_reverse_2 20 rfl rfl)
theorem dX1_reverse_68 : decode cX1_reverse 68 = .ok (.iconst 1, 1) := dk_4 (dk_at dksX1_reverse_2 21 rfl rfl)
theorem dX1_reverse_69 : decode cX1_reverse 69 = .ok (.iaload, 1) := dk_46 (dk_at dksX1_reverse_2 22 rfl rfl)
theorem dX1_reverse_70 : decode cX1_reverse 70 = .ok (.aload_n 3, 1) := dk_45 (dk_at dksX1_reverse_2 23 rfl rfl)
theorem dX1_reverse_71 : decode cX1_reverse 71 = .ok (.iconst 2, 1) := dk_5 (dk_at dksX1_reverse_3 0 rfl rfl)
theorem dX1_reverse_72 : decode cX1_reverse 72 = .ok (.iaload, 1) := dk_46 (dk_at dksX1_reverse_3 1 rfl rfl)
theorem dX1_reverse_73 : decode cX1_reverse 73 = .ok (.invokevirtual 261, 3) := dk_182 1 5 (dk_at dksX1_reverse_3 2 rfl rfl)
theorem dX1_reverse_76 : decode cX1_reverse 76 = .ok (.iinc 2 1, 3) := dk_132 2 1 (dk_at dksX1_reverse_3 5 rfl rfl)
theorem dX1_reverse_79 : decode cX1_reverse 79 = .ok (.goto (-41), 3) := dk_167 255 215 (dk_at dksX1_reverse_3 8 rfl rfl)
theorem dX1_reverse_82 : decode cX1_reverse 82 = .ok (.aload_n 0, 1) := dk_42 (dk_at dksX1_reverse_3 11 rfl rfl)
theorem dX1_reverse_83 : decode cX1_reverse 83 = .ok (.getfield 12, 3) := dk_180 0 12 (dk_at dksX1_reverse_3 12 rfl rfl)
theorem dX1_reverse_86 : decode cX1_reverse 86 = .ok (.getfield 185, 3) := dk_180 0 185 (dk_at dksX1_reverse_3 15 rfl rfl)
theorem dX1_reverse_89 : decode cX1_reverse 89 = .ok (.invokevirtual 103, 3) := dk_182 0 103 (dk_at dksX1_reverse_3 18 rfl rfl)
theorem dX1_reverse_92 : decode cX1_reverse 92 = .ok (.ireturn, 1) := dk_172 (dk_at dksX1_reverse_3 21 rfl rfl)
abbrev cX1_inverseOf : ByteArray := prog_1_method_11_code
def yX1_inverseOf : MethodName := ⟨RX1, "inverseOf", "(I)I"⟩
def dkwX1_inverseOf_0 : List UInt8 := [26, 4, 160, 0, 7, 5, 167, 0, 13, 26, 5, 160, 0, 7, 4, 167, 0, 4, 26, 172]
abbrev dktX1_inverseOf_0 : List UInt8 := dkwX1_inverseOf_0 ++ []
theorem dksX1_inverseOf_0 : cX1_inverseOf.data.toList.drop 0 = dktX1_inverseOf_0 := by decide +kernel
theorem dX1_inverseOf_0 : decode cX1_inverseOf 0 = .ok (.iload_n 0, 1) := dk_26 (dk_at dksX1_inverseOf_0 0 rfl rfl)
theorem dX1_inverseOf_1 : decode cX1_inverseOf 1 = .ok (.iconst 1, 1) := dk_4 (dk_at dksX1_inverseOf_0 1 rfl rfl)
theorem dX1_inverseOf_2 : decode cX1_inverseOf 2 = .ok (.if_icmp .ne 7, 3) := dk_160 0 7 (dk_at dksX1_inverseOf_0 2 rfl rfl)
theorem dX1_inverseOf_5 : decode cX1_inverseOf 5 = .ok (.iconst 2, 1) := dk_5 (dk_at dksX1_inverseOf_0 5 rfl rfl)
theorem dX1_inverseOf_6 : decode cX1_inverseOf 6 = .ok (.goto 13, 3) := dk_167 0 13 (dk_at dksX1_inverseOf_0 6 rfl rfl)
theorem dX1_inverseOf_9 : decode cX1_inverseOf 9 = .ok (.iload_n 0, 1) := dk_26 (dk_at dksX1_inverseOf_0 9 rfl rfl)
theorem dX1_inverseOf_10 : decode cX1_inverseOf 10 = .ok (.iconst 2, 1) := dk_5 (dk_at dksX1_inverseOf_0 10 rfl rfl)
theorem dX1_inverseOf_11 : decode cX1_inverseOf 11 = .ok (.if_icmp .ne 7, 3) := dk_160 0 7 (dk_at dksX1_inverseOf_0 11 rfl rfl)
theorem dX1_inverseOf_14 : decode cX1_inverseOf 14 = .ok (.iconst 1, 1) := dk_4 (dk_at dksX1_inverseOf_0 14 rfl rfl)
theorem dX1_inverseOf_15 : decode cX1_inverseOf 15 = .ok (.goto 4, 3) := dk_167 0 4 (dk_at dksX1_inverseOf_0 15 rfl rfl)
theorem dX1_inverseOf_18 : decode cX1_inverseOf 18 = .ok (.iload_n 0, 1) := dk_26 (dk_at dksX1_inverseOf_0 18 rfl rfl)
theorem dX1_inverseOf_19 : decode cX1_inverseOf 19 = .ok (.ireturn, 1) := dk_172 (dk_at dksX1_inverseOf_0 19 rfl rfl)
abbrev cX1_goBack : ByteArray := prog_1_method_38_code
def yX1_goBack : MethodName := ⟨RX1, "goBack", "(I)I"⟩
def dkwX1_goBack_1 : List UInt8 := [172]
abbrev dktX1_goBack_1 : List UInt8 := dkwX1_goBack_1 ++ []
def dkwX1_goBack_0 : List UInt8 := [42, 42, 27, 182, 1, 15, 182, 1, 19, 182, 1, 12, 61, 42, 180, 0, 12, 180, 0, 185, 182, 0, 140, 28]
abbrev dktX1_goBack_0 : List UInt8 := dkwX1_goBack_0 ++ dktX1_goBack_1
theorem dksX1_goBack_0 : cX1_goBack.data.toList.drop 0 = dktX1_goBack_0 := by decide +kernel
theorem dksX1_goBack_1 : cX1_goBack.data.toList.drop 24 = dktX1_goBack_1 := dk_seg dksX1_goBack_0 24 rfl rfl
theorem dX1_goBack_0 : decode cX1_goBack 0 = .ok (.aload_n 0, 1) := dk_42 (dk_at dksX1_goBack_0 0 rfl rfl)
theorem dX1_goBack_1 : decode cX1_goBack 1 = .ok (.aload_n 0, 1) := dk_42 (dk_at dksX1_goBack_0 1 rfl rfl)
theorem dX1_goBack_2 : decode cX1_goBack 2 = .ok (.iload_n 1, 1) := dk_27 (dk_at dksX1_goBack_0 2 rfl rfl)
theorem dX1_goBack_3 : decode cX1_goBack 3 = .ok (.invokevirtual 271, 3) := dk_182 1 15 (dk_at dksX1_goBack_0 3 rfl rfl)
theorem dX1_goBack_6 : decode cX1_goBack 6 = .ok (.invokevirtual 275, 3) := dk_182 1 19 (dk_at dksX1_goBack_0 6 rfl rfl)
theorem dX1_goBack_9 : decode cX1_goBack 9 = .ok (.invokevirtual 268, 3) := dk_182 1 12 (dk_at dksX1_goBack_0 9 rfl rfl)
theorem dX1_goBack_12 : decode cX1_goBack 12 = .ok (.istore_n 2, 1) := dk_61 (dk_at dksX1_goBack_0 12 rfl rfl)
theorem dX1_goBack_13 : decode cX1_goBack 13 = .ok (.aload_n 0, 1) := dk_42 (dk_at dksX1_goBack_0 13 rfl rfl)
theorem dX1_goBack_14 : decode cX1_goBack 14 = .ok (.getfield 12, 3) := dk_180 0 12 (dk_at dksX1_goBack_0 14 rfl rfl)
theorem dX1_goBack_17 : decode cX1_goBack 17 = .ok (.getfield 185, 3) := dk_180 0 185 (dk_at dksX1_goBack_0 17 rfl rfl)
theorem dX1_goBack_20 : decode cX1_goBack 20 = .ok (.invokevirtual 140, 3) := dk_182 0 140 (dk_at dksX1_goBack_0 20 rfl rfl)
theorem dX1_goBack_23 : decode cX1_goBack 23 = .ok (.iload_n 2, 1) := dk_28 (dk_at dksX1_goBack_0 23 rfl rfl)
theorem dX1_goBack_24 : decode cX1_goBack 24 = .ok (.ireturn, 1) := dk_172 (dk_at dksX1_goBack_1 0 rfl rfl)
abbrev cX1_kept : ByteArray := prog_1_method_69_code
def yX1_kept : MethodName := ⟨RX1, "kept", "(I)LStringTableau$Tableau;"⟩
def dkwX1_kept_1 : List UInt8 := [184, 0, 233, 42, 180, 0, 34, 27, 50, 176]
abbrev dktX1_kept_1 : List UInt8 := dkwX1_kept_1 ++ []
def dkwX1_kept_0 : List UInt8 := [27, 3, 4, 184, 0, 88, 184, 0, 188, 42, 180, 0, 34, 27, 50, 198, 0, 7, 4, 167, 0, 4, 3]
abbrev dktX1_kept_0 : List UInt8 := dkwX1_kept_0 ++ dktX1_kept_1
theorem dksX1_kept_0 : cX1_kept.data.toList.drop 0 = dktX1_kept_0 := by decide +kernel
theorem dksX1_kept_1 : cX1_kept.data.toList.drop 23 = dktX1_kept_1 := dk_seg dksX1_kept_0 23 rfl rfl
theorem dX1_kept_0 : decode cX1_kept 0 = .ok (.iload_n 1, 1) := dk_27 (dk_at dksX1_kept_0 0 rfl rfl)
theorem dX1_kept_1 : decode cX1_kept 1 = .ok (.iconst 0, 1) := dk_3 (dk_at dksX1_kept_0 1 rfl rfl)
theorem dX1_kept_2 : decode cX1_kept 2 = .ok (.iconst 1, 1) := dk_4 (dk_at dksX1_kept_0 2 rfl rfl)
theorem dX1_kept_3 : decode cX1_kept 3 = .ok (.invokestatic 88, 3) := dk_184 0 88 (dk_at dksX1_kept_0 3 rfl rfl)
theorem dX1_kept_6 : decode cX1_kept 6 = .ok (.invokestatic 188, 3) := dk_184 0 188 (dk_at dksX1_kept_0 6 rfl rfl)
theorem dX1_kept_9 : decode cX1_kept 9 = .ok (.aload_n 0, 1) := dk_42 (dk_at dksX1_kept_0 9 rfl rfl)
theorem dX1_kept_10 : decode cX1_kept 10 = .ok (.getfield 34, 3) := dk_180 0 34 (dk_at dksX1_kept_0 10 rfl rfl)
theorem dX1_kept_13 : decode cX1_kept 13 = .ok (.iload_n 1, 1) := dk_27 (dk_at dksX1_kept_0 13 rfl rfl)
theorem dX1_kept_14 : decode cX1_kept 14 = .ok (.aaload, 1) := dk_50 (dk_at dksX1_kept_0 14 rfl rfl)
theorem dX1_kept_15 : decode cX1_kept 15 = .ok (.ifnull 7, 3) := dk_198 0 7 (dk_at dksX1_kept_0 15 rfl rfl)
theorem dX1_kept_18 : decode cX1_kept 18 = .ok (.iconst 1, 1) := dk_4 (dk_at dksX1_kept_0 18 rfl rfl)
theorem dX1_kept_19 : decode cX1_kept 19 = .ok (.goto 4, 3) := dk_167 0 4 (dk_at dksX1_kept_0 19 rfl rfl)
theorem dX1_kept_22 : decode cX1_kept 22 = .ok (.iconst 0, 1) := dk_3 (dk_at dksX1_kept_0 22 rfl rfl)
theorem dX1_kept_23 : decode cX1_kept 23 = .ok (.invokestatic 233, 3) := dk_184 0 233 (dk_at dksX1_kept_1 0 rfl rfl)
theorem dX1_kept_26 : decode cX1_kept 26 = .ok (.aload_n 0, 1) := dk_42 (dk_at dksX1_kept_1 3 rfl rfl)
theorem dX1_kept_27 : decode cX1_kept 27 = .ok (.getfield 34, 3) := dk_180 0 34 (dk_at dksX1_kept_1 4 rfl rfl)
theorem dX1_kept_30 : decode cX1_kept 30 = .ok (.iload_n 1, 1) := dk_27 (dk_at dksX1_kept_1 7 rfl rfl)
theorem dX1_kept_31 : decode cX1_kept 31 = .ok (.aaload, 1) := dk_50 (dk_at dksX1_kept_1 8 rfl rfl)
theorem dX1_kept_32 : decode cX1_kept 32 = .ok (.areturn, 1) := dk_176 (dk_at dksX1_kept_1 9 rfl rfl)
abbrev cX1_undo : ByteArray := prog_1_method_39_code
def yX1_undo : MethodName := ⟨RX1, "undo", "()I"⟩
def dkwX1_undo_1 : List UInt8 := [182, 0, 253, 192, 0, 7, 181, 0, 12, 42, 180, 0, 28, 182, 0, 103, 172]
abbrev dktX1_undo_1 : List UInt8 := dkwX1_undo_1 ++ []
def dkwX1_undo_0 : List UInt8 := [42, 180, 0, 28, 182, 1, 21, 154, 0, 7, 4, 167, 0, 4, 3, 184, 0, 233, 42, 42, 180, 0, 28]
abbrev dktX1_undo_0 : List UInt8 := dkwX1_undo_0 ++ dktX1_undo_1
theorem dksX1_undo_0 : cX1_undo.data.toList.drop 0 = dktX1_undo_0 := by decide +kernel
theorem dksX1_undo_1 : cX1_undo.data.toList.drop 23 = dktX1_undo_1 := dk_seg dksX1_undo_0 23 rfl rfl
theorem dX1_undo_0 : decode cX1_undo 0 = .ok (.aload_n 0, 1) := dk_42 (dk_at dksX1_undo_0 0 rfl rfl)
theorem dX1_undo_1 : decode cX1_undo 1 = .ok (.getfield 28, 3) := dk_180 0 28 (dk_at dksX1_undo_0 1 rfl rfl)
theorem dX1_undo_4 : decode cX1_undo 4 = .ok (.invokevirtual 277, 3) := dk_182 1 21 (dk_at dksX1_undo_0 4 rfl rfl)
theorem dX1_undo_7 : decode cX1_undo 7 = .ok (.ifCond .ne 7, 3) := dk_154 0 7 (dk_at dksX1_undo_0 7 rfl rfl)
theorem dX1_undo_10 : decode cX1_undo 10 = .ok (.iconst 1, 1) := dk_4 (dk_at dksX1_undo_0 10 rfl rfl)
theorem dX1_undo_11 : decode cX1_undo 11 = .ok (.goto 4, 3) := dk_167 0 4 (dk_at dksX1_undo_0 11 rfl rfl)
theorem dX1_undo_14 : decode cX1_undo 14 = .ok (.iconst 0, 1) := dk_3 (dk_at dksX1_undo_0 14 rfl rfl)
theorem dX1_undo_15 : decode cX1_undo 15 = .ok (.invokestatic 233, 3) := dk_184 0 233 (dk_at dksX1_undo_0 15 rfl rfl)
theorem dX1_undo_18 : decode cX1_undo 18 = .ok (.aload_n 0, 1) := dk_42 (dk_at dksX1_undo_0 18 rfl rfl)
theorem dX1_undo_19 : decode cX1_undo 19 = .ok (.aload_n 0, 1) := dk_42 (dk_at dksX1_undo_0 19 rfl rfl)
theorem dX1_undo_20 : decode cX1_undo 20 = .ok (.getfield 28, 3) := dk_180 0 28 (dk_at dksX1_undo_0 20 rfl rfl)
theorem dX1_undo_23 : decode cX1_undo 23 = .ok (.invokevirtual 253, 3) := dk_182 0 253 (dk_at dksX1_undo_1 0 rfl rfl)
theorem dX1_undo_26 : decode cX1_undo 26 = .ok (.checkcast 7, 3) := dk_192 0 7 (dk_at dksX1_undo_1 3 rfl rfl)
theorem dX1_undo_29 : decode cX1_undo 29 = .ok (.putfield 12, 3) := dk_181 0 12 (dk_at dksX1_undo_1 6 rfl rfl)
theorem dX1_undo_32 : decode cX1_undo 32 = .ok (.aload_n 0, 1) := dk_42 (dk_at dksX1_undo_1 9 rfl rfl)
theorem dX1_undo_33 : decode cX1_undo 33 = .ok (.getfield 28, 3) := dk_180 0 28 (dk_at dksX1_undo_1 10 rfl rfl)
theorem dX1_undo_36 : decode cX1_undo 36 = .ok (.invokevirtual 103, 3) := dk_182 0 103 (dk_at dksX1_undo_1 13 rfl rfl)
theorem dX1_undo_39 : decode cX1_undo 39 = .ok (.ireturn, 1) := dk_172 (dk_at dksX1_undo_1 16 rfl rfl)
abbrev cX1_letter : ByteArray := prog_1_method_40_code
def yX1_letter : MethodName := ⟨RX1, "letter", "(II)I"⟩
def dkwX1_letter_1 : List UInt8 := [180, 1, 24, 45, 180, 1, 27, 28, 184, 0, 66, 172]
abbrev dktX1_letter_1 : List UInt8 := dkwX1_letter_1 ++ []
def dkwX1_letter_0 : List UInt8 := [42, 27, 182, 0, 203, 42, 28, 182, 0, 203, 42, 180, 0, 12, 180, 0, 95, 180, 0, 99, 27, 50, 78, 45]
abbrev dktX1_letter_0 : List UInt8 := dkwX1_letter_0 ++ dktX1_letter_1
theorem dksX1_letter_0 : cX1_letter.data.toList.drop 0 = dktX1_letter_0 := by decide +kernel
theorem dksX1_letter_1 : cX1_letter.data.toList.drop 24 = dktX1_letter_1 := dk_seg dksX1_letter_0 24 rfl rfl
theorem dX1_letter_0 : decode cX1_letter 0 = .ok (.aload_n 0, 1) := dk_42 (dk_at dksX1_letter_0 0 rfl rfl)
theorem dX1_letter_1 : decode cX1_letter 1 = .ok (.iload_n 1, 1) := dk_27 (dk_at dksX1_letter_0 1 rfl rfl)
theorem dX1_letter_2 : decode cX1_letter 2 = .ok (.invokevirtual 203, 3) := dk_182 0 203 (dk_at dksX1_letter_0 2 rfl rfl)
theorem dX1_letter_5 : decode cX1_letter 5 = .ok (.aload_n 0, 1) := dk_42 (dk_at dksX1_letter_0 5 rfl rfl)
theorem dX1_letter_6 : decode cX1_letter 6 = .ok (.iload_n 2, 1) := dk_28 (dk_at dksX1_letter_0 6 rfl rfl)
theorem dX1_letter_7 : decode cX1_letter 7 = .ok (.invokevirtual 203, 3) := dk_182 0 203 (dk_at dksX1_letter_0 7 rfl rfl)
theorem dX1_letter_10 : decode cX1_letter 10 = .ok (.aload_n 0, 1) := dk_42 (dk_at dksX1_letter_0 10 rfl rfl)
theorem dX1_letter_11 : decode cX1_letter 11 = .ok (.getfield 12, 3) := dk_180 0 12 (dk_at dksX1_letter_0 11 rfl rfl)
theorem dX1_letter_14 : decode cX1_letter 14 = .ok (.getfield 95, 3) := dk_180 0 95 (dk_at dksX1_letter_0 14 rfl rfl)
theorem dX1_letter_17 : decode cX1_letter 17 = .ok (.getfield 99, 3) := dk_180 0 99 (dk_at dksX1_letter_0 17 rfl rfl)
theorem dX1_letter_20 : decode cX1_letter 20 = .ok (.iload_n 1, 1) := dk_27 (dk_at dksX1_letter_0 20 rfl rfl)
theorem dX1_letter_21 : decode cX1_letter 21 = .ok (.aaload, 1) := dk_50 (dk_at dksX1_letter_0 21 rfl rfl)
theorem dX1_letter_22 : decode cX1_letter 22 = .ok (.astore_n 3, 1) := dk_78 (dk_at dksX1_letter_0 22 rfl rfl)
theorem dX1_letter_23 : decode cX1_letter 23 = .ok (.aload_n 3, 1) := dk_45 (dk_at dksX1_letter_0 23 rfl rfl)
theorem dX1_letter_24 : decode cX1_letter 24 = .ok (.getfield 280, 3) := dk_180 1 24 (dk_at dksX1_letter_1 0 rfl rfl)
theorem dX1_letter_27 : decode cX1_letter 27 = .ok (.aload_n 3, 1) := dk_45 (dk_at dksX1_letter_1 3 rfl rfl)
theorem dX1_letter_28 : decode cX1_letter 28 = .ok (.getfield 283, 3) := dk_180 1 27 (dk_at dksX1_letter_1 4 rfl rfl)
theorem dX1_letter_31 : decode cX1_letter 31 = .ok (.iload_n 2, 1) := dk_28 (dk_at dksX1_letter_1 7 rfl rfl)
theorem dX1_letter_32 : decode cX1_letter 32 = .ok (.invokestatic 66, 3) := dk_184 0 66 (dk_at dksX1_letter_1 8 rfl rfl)
theorem dX1_letter_35 : decode cX1_letter 35 = .ok (.ireturn, 1) := dk_172 (dk_at dksX1_letter_1 11 rfl rfl)
abbrev cX1_row : ByteArray := prog_1_method_42_code
def yX1_row : MethodName := ⟨RX1, "row", "(II)I"⟩
def dkwX1_row_0 : List UInt8 := [42, 42, 180, 0, 12, 180, 0, 95, 27, 28, 182, 1, 31, 172]
abbrev dktX1_row_0 : List UInt8 := dkwX1_row_0 ++ []
theorem dksX1_row_0 : cX1_row.data.toList.drop 0 = dktX1_row_0 := by decide +kernel
theorem dX1_row_0 : decode cX1_row 0 = .ok (.aload_n 0, 1) := dk_42 (dk_at dksX1_row_0 0 rfl rfl)
theorem dX1_row_1 : decode cX1_row 1 = .ok (.aload_n 0, 1) := dk_42 (dk_at dksX1_row_0 1 rfl rfl)
theorem dX1_row_2 : decode cX1_row 2 = .ok (.getfield 12, 3) := dk_180 0 12 (dk_at dksX1_row_0 2 rfl rfl)
theorem dX1_row_5 : decode cX1_row 5 = .ok (.getfield 95, 3) := dk_180 0 95 (dk_at dksX1_row_0 5 rfl rfl)
theorem dX1_row_8 : decode cX1_row 8 = .ok (.iload_n 1, 1) := dk_27 (dk_at dksX1_row_0 8 rfl rfl)
theorem dX1_row_9 : decode cX1_row 9 = .ok (.iload_n 2, 1) := dk_28 (dk_at dksX1_row_0 9 rfl rfl)
theorem dX1_row_10 : decode cX1_row 10 = .ok (.invokevirtual 287, 3) := dk_182 1 31 (dk_at dksX1_row_0 10 rfl rfl)
theorem dX1_row_13 : decode cX1_row 13 = .ok (.ireturn, 1) := dk_172 (dk_at dksX1_row_0 13 rfl rfl)
abbrev cX1_propertyOf : ByteArray := prog_1_method_41_code
def yX1_propertyOf : MethodName := ⟨RX1, "propertyOf", "(LStringTableau$Tableau;II)I"⟩
def dkwX1_propertyOf_1 : List UInt8 := [172]
abbrev dktX1_propertyOf_1 : List UInt8 := dkwX1_propertyOf_1 ++ []
def dkwX1_propertyOf_0 : List UInt8 := [42, 28, 182, 0, 203, 29, 3, 5, 184, 0, 88, 184, 0, 188, 43, 180, 0, 99, 28, 50, 29, 182, 1, 30]
abbrev dktX1_propertyOf_0 : List UInt8 := dkwX1_propertyOf_0 ++ dktX1_propertyOf_1
theorem dksX1_propertyOf_0 : cX1_propertyOf.data.toList.drop 0 = dktX1_propertyOf_0 := by decide +kernel
theorem dksX1_propertyOf_1 : cX1_propertyOf.data.toList.drop 24 = dktX1_propertyOf_1 := dk_seg dksX1_propertyOf_0 24 rfl rfl
theorem dX1_propertyOf_0 : decode cX1_propertyOf 0 = .ok (.aload_n 0, 1) := dk_42 (dk_at dksX1_propertyOf_0 0 rfl rfl)
theorem dX1_propertyOf_1 : decode cX1_propertyOf 1 = .ok (.iload_n 2, 1) := dk_28 (dk_at dksX1_propertyOf_0 1 rfl rfl)
theorem dX1_propertyOf_2 : decode cX1_propertyOf 2 = .ok (.invokevirtual 203, 3) := dk_182 0 203 (dk_at dksX1_propertyOf_0 2 rfl rfl)
theorem dX1_propertyOf_5 : decode cX1_propertyOf 5 = .ok (.iload_n 3, 1) := dk_29 (dk_at dksX1_propertyOf_0 5 rfl rfl)
theorem dX1_propertyOf_6 : decode cX1_propertyOf 6 = .ok (.iconst 0, 1) := dk_3 (dk_at dksX1_propertyOf_0 6 rfl rfl)
theorem dX1_propertyOf_7 : decode cX1_propertyOf 7 = .ok (.iconst 2, 1) := dk_5 (dk_at dksX1_propertyOf_0 7 rfl rfl)
theorem dX1_propertyOf_8 : decode cX1_propertyOf 8 = .ok (.invokestatic 88, 3) := dk_184 0 88 (dk_at dksX1_propertyOf_0 8 rfl rfl)
theorem dX1_propertyOf_11 : decode cX1_propertyOf 11 = .ok (.invokestatic 188, 3) := dk_184 0 188 (dk_at dksX1_propertyOf_0 11 rfl rfl)
theorem dX1_propertyOf_14 : decode cX1_propertyOf 14 = .ok (.aload_n 1, 1) := dk_43 (dk_at dksX1_propertyOf_0 14 rfl rfl)
theorem dX1_propertyOf_15 : decode cX1_propertyOf 15 = .ok (.getfield 99, 3) := dk_180 0 99 (dk_at dksX1_propertyOf_0 15 rfl rfl)
theorem dX1_propertyOf_18 : decode cX1_propertyOf 18 = .ok (.iload_n 2, 1) := dk_28 (dk_at dksX1_propertyOf_0 18 rfl rfl)
theorem dX1_propertyOf_19 : decode cX1_propertyOf 19 = .ok (.aaload, 1) := dk_50 (dk_at dksX1_propertyOf_0 19 rfl rfl)
theorem dX1_propertyOf_20 : decode cX1_propertyOf 20 = .ok (.iload_n 3, 1) := dk_29 (dk_at dksX1_propertyOf_0 20 rfl rfl)
theorem dX1_propertyOf_21 : decode cX1_propertyOf 21 = .ok (.invokevirtual 286, 3) := dk_182 1 30 (dk_at dksX1_propertyOf_0 21 rfl rfl)
theorem dX1_propertyOf_24 : decode cX1_propertyOf 24 = .ok (.ireturn, 1) := dk_172 (dk_at dksX1_propertyOf_1 0 rfl rfl)
abbrev cX1_canonical : ByteArray := prog_1_method_43_code
def yX1_canonical : MethodName := ⟨RX1, "canonical", "(II)I"⟩
def dkwX1_canonical_0 : List UInt8 := [42, 42, 180, 0, 12, 180, 0, 95, 182, 1, 8, 27, 28, 182, 1, 31, 172]
abbrev dktX1_canonical_0 : List UInt8 := dkwX1_canonical_0 ++ []
theorem dksX1_canonical_0 : cX1_canonical.data.toList.drop 0 = dktX1_canonical_0 := by decide +kernel
theorem dX1_canonical_0 : decode cX1_canonical 0 = .ok (.aload_n 0, 1) := dk_42 (dk_at dksX1_canonical_0 0 rfl rfl)
theorem dX1_canonical_1 : decode cX1_canonical 1 = .ok (.aload_n 0, 1) := dk_42 (dk_at dksX1_canonical_0 1 rfl rfl)
theorem dX1_canonical_2 : decode cX1_canonical 2 = .ok (.getfield 12, 3) := dk_180 0 12 (dk_at dksX1_canonical_0 2 rfl rfl)
theorem dX1_canonical_5 : decode cX1_canonical 5 = .ok (.getfield 95, 3) := dk_180 0 95 (dk_at dksX1_canonical_0 5 rfl rfl)
theorem dX1_canonical_8 : decode cX1_canonical 8 = .ok (.invokevirtual 264, 3) := dk_182 1 8 (dk_at dksX1_canonical_0 8 rfl rfl)
theorem dX1_canonical_11 : decode cX1_canonical 11 = .ok (.iload_n 1, 1) := dk_27 (dk_at dksX1_canonical_0 11 rfl rfl)
theorem dX1_canonical_12 : decode cX1_canonical 12 = .ok (.iload_n 2, 1) := dk_28 (dk_at dksX1_canonical_0 12 rfl rfl)
theorem dX1_canonical_13 : decode cX1_canonical 13 = .ok (.invokevirtual 287, 3) := dk_182 1 31 (dk_at dksX1_canonical_0 13 rfl rfl)
theorem dX1_canonical_16 : decode cX1_canonical 16 = .ok (.ireturn, 1) := dk_172 (dk_at dksX1_canonical_0 16 rfl rfl)
abbrev cX1_measured : ByteArray := prog_1_method_44_code
def yX1_measured : MethodName := ⟨RX1, "measured", "(II)I"⟩
def dkwX1_measured_3 : List UInt8 := [153, 0, 7, 4, 167, 0, 4, 3, 172]
abbrev dktX1_measured_3 : List UInt8 := dkwX1_measured_3 ++ []
def dkwX1_measured_2 : List UInt8 := [185, 0, 163, 2, 0, 192, 0, 167, 78, 28, 154, 0, 10, 45, 180, 1, 35, 167, 0, 15, 45, 180, 0, 169]
abbrev dktX1_measured_2 : List UInt8 := dkwX1_measured_2 ++ dktX1_measured_3
def dkwX1_measured_1 : List UInt8 := [4, 184, 0, 88, 153, 0, 7, 4, 167, 0, 4, 3, 184, 0, 188, 42, 180, 0, 12, 180, 0, 160, 27]
abbrev dktX1_measured_1 : List UInt8 := dkwX1_measured_1 ++ dktX1_measured_2
def dkwX1_measured_0 : List UInt8 := [27, 3, 42, 180, 0, 12, 180, 0, 160, 185, 0, 149, 1, 0, 4, 100, 184, 0, 88, 153, 0, 16, 28, 3]
abbrev dktX1_measured_0 : List UInt8 := dkwX1_measured_0 ++ dktX1_measured_1
theorem dksX1_measured_0 : cX1_measured.data.toList.drop 0 = dktX1_measured_0 := by decide +kernel
theorem dksX1_measured_1 : cX1_measured.data.toList.drop 24 = dktX1_measured_1 := dk_seg dksX1_measured_0 24 rfl rfl
theorem dksX1_measured_2 : cX1_measured.data.toList.drop 47 = dktX1_measured_2 := dk_seg dksX1_measured_1 23 rfl rfl
theorem dksX1_measured_3 : cX1_measured.data.toList.drop 71 = dktX1_measured_3 := dk_seg dksX1_measured_2 24 rfl rfl
theorem dX1_measured_0 : decode cX1_measured 0 = .ok (.iload_n 1, 1) := dk_27 (dk_at dksX1_measured_0 0 rfl rfl)
theorem dX1_measured_1 : decode cX1_measured 1 = .ok (.iconst 0, 1) := dk_3 (dk_at dksX1_measured_0 1 rfl rfl)
theorem dX1_measured_2 : decode cX1_measured 2 = .ok (.aload_n 0, 1) := dk_42 (dk_at dksX1_measured_0 2 rfl rfl)
theorem dX1_measured_3 : decode cX1_measured 3 = .ok (.getfield 12, 3) := dk_180 0 12 (dk_at dksX1_measured_0 3 rfl rfl)
theorem dX1_measured_6 : decode cX1_measured 6 = .ok (.getfield 160, 3) := dk_180 0 160 (dk_at dksX1_measured_0 6 rfl rfl)
theorem dX1_measured_9 : decode cX1_measured 9 = .ok (.invokeinterface 149 1, 5) := by decide +kernel
theorem dX1_measured_14 : decode cX1_measured 14 = .ok (.iconst 1, 1) := dk_4 (dk_at dksX1_measured_0 14 rfl rfl)
theorem dX1_measured_15 : decode cX1_measured 15 = .ok (.isub, 1) := dk_100 (dk_at dksX1_measured_0 15 rfl rfl)
theorem dX1_measured_16 : decode cX1_measured 16 = .ok (.invokestatic 88, 3) := dk_184 0 88 (dk_at dksX1_measured_0 16 rfl rfl)
theorem dX1_measured_19 : decode cX1_measured 19 = .ok (.ifCond .eq 16, 3) := dk_153 0 16 (dk_at dksX1_measured_0 19 rfl rfl)
theorem dX1_measured_22 : decode cX1_measured 22 = .ok (.iload_n 2, 1) := dk_28 (dk_at dksX1_measured_0 22 rfl rfl)
theorem dX1_measured_23 : decode cX1_measured 23 = .ok (.iconst 0, 1) := dk_3 (dk_at dksX1_measured_0 23 rfl rfl)
theorem dX1_measured_24 : decode cX1_measured 24 = .ok (.iconst 1, 1) := dk_4 (dk_at dksX1_measured_1 0 rfl rfl)
theorem dX1_measured_25 : decode cX1_measured 25 = .ok (.invokestatic 88, 3) := dk_184 0 88 (dk_at dksX1_measured_1 1 rfl rfl)
theorem dX1_measured_28 : decode cX1_measured 28 = .ok (.ifCond .eq 7, 3) := dk_153 0 7 (dk_at dksX1_measured_1 4 rfl rfl)
theorem dX1_measured_31 : decode cX1_measured 31 = .ok (.iconst 1, 1) := dk_4 (dk_at dksX1_measured_1 7 rfl rfl)
theorem dX1_measured_32 : decode cX1_measured 32 = .ok (.goto 4, 3) := dk_167 0 4 (dk_at dksX1_measured_1 8 rfl rfl)
theorem dX1_measured_35 : decode cX1_measured 35 = .ok (.iconst 0, 1) := dk_3 (dk_at dksX1_measured_1 11 rfl rfl)
theorem dX1_measured_36 : decode cX1_measured 36 = .ok (.invokestatic 188, 3) := dk_184 0 188 (dk_at dksX1_measured_1 12 rfl rfl)
theorem dX1_measured_39 : decode cX1_measured 39 = .ok (.aload_n 0, 1) := dk_42 (dk_at dksX1_measured_1 15 rfl rfl)
theorem dX1_measured_40 : decode cX1_measured 40 = .ok (.getfield 12, 3) := dk_180 0 12 (dk_at dksX1_measured_1 16 rfl rfl)
theorem dX1_measured_43 : decode cX1_measured 43 = .ok (.getfield 160, 3) := dk_180 0 160 (dk_at dksX1_measured_1 19 rfl rfl)
theorem dX1_measured_46 : decode cX1_measured 46 = .ok (.iload_n 1, 1) := dk_27 (dk_at dksX1_measured_1 22 rfl rfl)
theorem dX1_measured_47 : decode cX1_measured 47 = .ok (.invokeinterface 163 2, 5) := by decide +kernel
theorem dX1_measured_52 : decode cX1_measured 52 = .ok (.checkcast 167, 3) := dk_192 0 167 (dk_at dksX1_measured_2 5 rfl rfl)
theorem dX1_measured_55 : decode cX1_measured 55 = .ok (.astore_n 3, 1) := dk_78 (dk_at dksX1_measured_2 8 rfl rfl)
theorem dX1_measured_56 : decode cX1_measured 56 = .ok (.iload_n 2, 1) := dk_28 (dk_at dksX1_measured_2 9 rfl rfl)
theorem dX1_measured_57 : decode cX1_measured 57 = .ok (.ifCond .ne 10, 3) := dk_154 0 10 (dk_at dksX1_measured_2 10 rfl rfl)
theorem dX1_measured_60 : decode cX1_measured 60 = .ok (.aload_n 3, 1) := dk_45 (dk_at dksX1_measured_2 13 rfl rfl)
theorem dX1_measured_61 : decode cX1_measured 61 = .ok (.getfield 291, 3) := dk_180 1 35 (dk_at dksX1_measured_2 14 rfl rfl)
theorem dX1_measured_64 : decode cX1_measured 64 = .ok (.goto 15, 3) := dk_167 0 15 (dk_at dksX1_measured_2 17 rfl rfl)
theorem dX1_measured_67 : decode cX1_measured 67 = .ok (.aload_n 3, 1) := dk_45 (dk_at dksX1_measured_2 20 rfl rfl)
theorem dX1_measured_68 : decode cX1_measured 68 = .ok (.getfield 169, 3) := dk_180 0 169 (dk_at dksX1_measured_2 21 rfl rfl)
theorem dX1_measured_71 : decode cX1_measured 71 = .ok (.ifCond .eq 7, 3) := dk_153 0 7 (dk_at dksX1_measured_3 0 rfl rfl)
theorem dX1_measured_74 : decode cX1_measured 74 = .ok (.iconst 1, 1) := dk_4 (dk_at dksX1_measured_3 3 rfl rfl)
theorem dX1_measured_75 : decode cX1_measured 75 = .ok (.goto 4, 3) := dk_167 0 4 (dk_at dksX1_measured_3 4 rfl rfl)
theorem dX1_measured_78 : decode cX1_measured 78 = .ok (.iconst 0, 1) := dk_3 (dk_at dksX1_measured_3 7 rfl rfl)
theorem dX1_measured_79 : decode cX1_measured 79 = .ok (.ireturn, 1) := dk_172 (dk_at dksX1_measured_3 8 rfl rfl)
abbrev cX1_commute : ByteArray := prog_1_method_45_code
def yX1_commute : MethodName := ⟨RX1, "commute", "(IIII)Z"⟩
def dkwX1_commute_0 : List UInt8 := [42, 27, 28, 182, 0, 221, 42, 29, 21, 4, 182, 0, 221, 27, 28, 29, 21, 4, 184, 1, 38, 172]
abbrev dktX1_commute_0 : List UInt8 := dkwX1_commute_0 ++ []
theorem dksX1_commute_0 : cX1_commute.data.toList.drop 0 = dktX1_commute_0 := by decide +kernel
theorem dX1_commute_0 : decode cX1_commute 0 = .ok (.aload_n 0, 1) := dk_42 (dk_at dksX1_commute_0 0 rfl rfl)
theorem dX1_commute_1 : decode cX1_commute 1 = .ok (.iload_n 1, 1) := dk_27 (dk_at dksX1_commute_0 1 rfl rfl)
theorem dX1_commute_2 : decode cX1_commute 2 = .ok (.iload_n 2, 1) := dk_28 (dk_at dksX1_commute_0 2 rfl rfl)
theorem dX1_commute_3 : decode cX1_commute 3 = .ok (.invokevirtual 221, 3) := dk_182 0 221 (dk_at dksX1_commute_0 3 rfl rfl)
theorem dX1_commute_6 : decode cX1_commute 6 = .ok (.aload_n 0, 1) := dk_42 (dk_at dksX1_commute_0 6 rfl rfl)
theorem dX1_commute_7 : decode cX1_commute 7 = .ok (.iload_n 3, 1) := dk_29 (dk_at dksX1_commute_0 7 rfl rfl)
theorem dX1_commute_8 : decode cX1_commute 8 = .ok (.iload 4, 2) := dk_21 4 (dk_at dksX1_commute_0 8 rfl rfl)
theorem dX1_commute_10 : decode cX1_commute 10 = .ok (.invokevirtual 221, 3) := dk_182 0 221 (dk_at dksX1_commute_0 10 rfl rfl)
theorem dX1_commute_13 : decode cX1_commute 13 = .ok (.iload_n 1, 1) := dk_27 (dk_at dksX1_commute_0 13 rfl rfl)
theorem dX1_commute_14 : decode cX1_commute 14 = .ok (.iload_n 2, 1) := dk_28 (dk_at dksX1_commute_0 14 rfl rfl)
theorem dX1_commute_15 : decode cX1_commute 15 = .ok (.iload_n 3, 1) := dk_29 (dk_at dksX1_commute_0 15 rfl rfl)
theorem dX1_commute_16 : decode cX1_commute 16 = .ok (.iload 4, 2) := dk_21 4 (dk_at dksX1_commute_0 16 rfl rfl)
theorem dX1_commute_18 : decode cX1_commute 18 = .ok (.invokestatic 294, 3) := dk_184 1 38 (dk_at dksX1_commute_0 18 rfl rfl)
theorem dX1_commute_21 : decode cX1_commute 21 = .ok (.ireturn, 1) := dk_172 (dk_at dksX1_commute_0 21 rfl rfl)
abbrev cX1_phase : ByteArray := prog_1_method_46_code
def yX1_phase : MethodName := ⟨RX1, "phase", "(IIII)I"⟩
def dkwX1_phase_0 : List UInt8 := [42, 27, 28, 182, 0, 221, 42, 29, 21, 4, 182, 0, 221, 27, 28, 29, 21, 4, 184, 1, 42, 172]
abbrev dktX1_phase_0 : List UInt8 := dkwX1_phase_0 ++ []
theorem dksX1_phase_0 : cX1_phase.data.toList.drop 0 = dktX1_phase_0 := by decide +kernel
theorem dX1_phase_0 : decode cX1_phase 0 = .ok (.aload_n 0, 1) := dk_42 (dk_at dksX1_phase_0 0 rfl rfl)
theorem dX1_phase_1 : decode cX1_phase 1 = .ok (.iload_n 1, 1) := dk_27 (dk_at dksX1_phase_0 1 rfl rfl)
theorem dX1_phase_2 : decode cX1_phase 2 = .ok (.iload_n 2, 1) := dk_28 (dk_at dksX1_phase_0 2 rfl rfl)
theorem dX1_phase_3 : decode cX1_phase 3 = .ok (.invokevirtual 221, 3) := dk_182 0 221 (dk_at dksX1_phase_0 3 rfl rfl)
theorem dX1_phase_6 : decode cX1_phase 6 = .ok (.aload_n 0, 1) := dk_42 (dk_at dksX1_phase_0 6 rfl rfl)
theorem dX1_phase_7 : decode cX1_phase 7 = .ok (.iload_n 3, 1) := dk_29 (dk_at dksX1_phase_0 7 rfl rfl)
theorem dX1_phase_8 : decode cX1_phase 8 = .ok (.iload 4, 2) := dk_21 4 (dk_at dksX1_phase_0 8 rfl rfl)
theorem dX1_phase_10 : decode cX1_phase 10 = .ok (.invokevirtual 221, 3) := dk_182 0 221 (dk_at dksX1_phase_0 10 rfl rfl)
theorem dX1_phase_13 : decode cX1_phase 13 = .ok (.iload_n 1, 1) := dk_27 (dk_at dksX1_phase_0 13 rfl rfl)
theorem dX1_phase_14 : decode cX1_phase 14 = .ok (.iload_n 2, 1) := dk_28 (dk_at dksX1_phase_0 14 rfl rfl)
theorem dX1_phase_15 : decode cX1_phase 15 = .ok (.iload_n 3, 1) := dk_29 (dk_at dksX1_phase_0 15 rfl rfl)
theorem dX1_phase_16 : decode cX1_phase 16 = .ok (.iload 4, 2) := dk_21 4 (dk_at dksX1_phase_0 16 rfl rfl)
theorem dX1_phase_18 : decode cX1_phase 18 = .ok (.invokestatic 298, 3) := dk_184 1 42 (dk_at dksX1_phase_0 18 rfl rfl)
theorem dX1_phase_21 : decode cX1_phase 21 = .ok (.ireturn, 1) := dk_172 (dk_at dksX1_phase_0 21 rfl rfl)
abbrev cX1_against : ByteArray := prog_1_method_47_code
def yX1_against : MethodName := ⟨RX1, "against", "(II)I"⟩
def dkwX1_against_0 : List UInt8 := [42, 27, 28, 182, 0, 221, 42, 180, 0, 12, 180, 0, 95, 27, 28, 182, 1, 46, 172]
abbrev dktX1_against_0 : List UInt8 := dkwX1_against_0 ++ []
theorem dksX1_against_0 : cX1_against.data.toList.drop 0 = dktX1_against_0 := by decide +kernel
theorem dX1_against_0 : decode cX1_against 0 = .ok (.aload_n 0, 1) := dk_42 (dk_at dksX1_against_0 0 rfl rfl)
theorem dX1_against_1 : decode cX1_against 1 = .ok (.iload_n 1, 1) := dk_27 (dk_at dksX1_against_0 1 rfl rfl)
theorem dX1_against_2 : decode cX1_against 2 = .ok (.iload_n 2, 1) := dk_28 (dk_at dksX1_against_0 2 rfl rfl)
theorem dX1_against_3 : decode cX1_against 3 = .ok (.invokevirtual 221, 3) := dk_182 0 221 (dk_at dksX1_against_0 3 rfl rfl)
theorem dX1_against_6 : decode cX1_against 6 = .ok (.aload_n 0, 1) := dk_42 (dk_at dksX1_against_0 6 rfl rfl)
theorem dX1_against_7 : decode cX1_against 7 = .ok (.getfield 12, 3) := dk_180 0 12 (dk_at dksX1_against_0 7 rfl rfl)
theorem dX1_against_10 : decode cX1_against 10 = .ok (.getfield 95, 3) := dk_180 0 95 (dk_at dksX1_against_0 10 rfl rfl)
theorem dX1_against_13 : decode cX1_against 13 = .ok (.iload_n 1, 1) := dk_27 (dk_at dksX1_against_0 13 rfl rfl)
theorem dX1_against_14 : decode cX1_against 14 = .ok (.iload_n 2, 1) := dk_28 (dk_at dksX1_against_0 14 rfl rfl)
theorem dX1_against_15 : decode cX1_against 15 = .ok (.invokevirtual 302, 3) := dk_182 1 46 (dk_at dksX1_against_0 15 rfl rfl)
theorem dX1_against_18 : decode cX1_against 18 = .ok (.ireturn, 1) := dk_172 (dk_at dksX1_against_0 18 rfl rfl)
abbrev cX1_expectation : ByteArray := prog_1_method_48_code
def yX1_expectation : MethodName := ⟨RX1, "expectation", "(II)I"⟩
def dkwX1_expectation_0 : List UInt8 := [42, 27, 28, 182, 0, 221, 42, 180, 0, 12, 187, 0, 224, 89, 27, 28, 3, 183, 0, 226, 182, 1, 50, 172]
abbrev dktX1_expectation_0 : List UInt8 := dkwX1_expectation_0 ++ []
theorem dksX1_expectation_0 : cX1_expectation.data.toList.drop 0 = dktX1_expectation_0 := by decide +kernel
theorem dX1_expectation_0 : decode cX1_expectation 0 = .ok (.aload_n 0, 1) := dk_42 (dk_at dksX1_expectation_0 0 rfl rfl)
theorem dX1_expectation_1 : decode cX1_expectation 1 = .ok (.iload_n 1, 1) := dk_27 (dk_at dksX1_expectation_0 1 rfl rfl)
theorem dX1_expectation_2 : decode cX1_expectation 2 = .ok (.iload_n 2, 1) := dk_28 (dk_at dksX1_expectation_0 2 rfl rfl)
theorem dX1_expectation_3 : decode cX1_expectation 3 = .ok (.invokevirtual 221, 3) := dk_182 0 221 (dk_at dksX1_expectation_0 3 rfl rfl)
theorem dX1_expectation_6 : decode cX1_expectation 6 = .ok (.aload_n 0, 1) := dk_42 (dk_at dksX1_expectation_0 6 rfl rfl)
theorem dX1_expectation_7 : decode cX1_expectation 7 = .ok (.getfield 12, 3) := dk_180 0 12 (dk_at dksX1_expectation_0 7 rfl rfl)
theorem dX1_expectation_10 : decode cX1_expectation 10 = .ok (.new 224, 3) := dk_187 0 224 (dk_at dksX1_expectation_0 10 rfl rfl)
theorem dX1_expectation_13 : decode cX1_expectation 13 = .ok (.dup, 1) := dk_89 (dk_at dksX1_expectation_0 13 rfl rfl)
theorem dX1_expectation_14 : decode cX1_expectation 14 = .ok (.iload_n 1, 1) := dk_27 (dk_at dksX1_expectation_0 14 rfl rfl)
theorem dX1_expectation_15 : decode cX1_expectation 15 = .ok (.iload_n 2, 1) := dk_28 (dk_at dksX1_expectation_0 15 rfl rfl)
theorem dX1_expectation_16 : decode cX1_expectation 16 = .ok (.iconst 0, 1) := dk_3 (dk_at dksX1_expectation_0 16 rfl rfl)
theorem dX1_expectation_17 : decode cX1_expectation 17 = .ok (.invokespecial 226, 3) := dk_183 0 226 (dk_at dksX1_expectation_0 17 rfl rfl)
theorem dX1_expectation_20 : decode cX1_expectation 20 = .ok (.invokevirtual 306, 3) := dk_182 1 50 (dk_at dksX1_expectation_0 20 rfl rfl)
theorem dX1_expectation_23 : decode cX1_expectation 23 = .ok (.ireturn, 1) := dk_172 (dk_at dksX1_expectation_0 23 rfl rfl)
abbrev cX1_decompose : ByteArray := prog_1_method_49_code
def yX1_decompose : MethodName := ⟨RX1, "decompose", "(II)I"⟩
def dkwX1_decompose_0 : List UInt8 := [42, 27, 28, 182, 0, 221, 42, 180, 0, 12, 180, 0, 95, 27, 28, 182, 1, 54, 172]
abbrev dktX1_decompose_0 : List UInt8 := dkwX1_decompose_0 ++ []
theorem dksX1_decompose_0 : cX1_decompose.data.toList.drop 0 = dktX1_decompose_0 := by decide +kernel
theorem dX1_decompose_0 : decode cX1_decompose 0 = .ok (.aload_n 0, 1) := dk_42 (dk_at dksX1_decompose_0 0 rfl rfl)
theorem dX1_decompose_1 : decode cX1_decompose 1 = .ok (.iload_n 1, 1) := dk_27 (dk_at dksX1_decompose_0 1 rfl rfl)
theorem dX1_decompose_2 : decode cX1_decompose 2 = .ok (.iload_n 2, 1) := dk_28 (dk_at dksX1_decompose_0 2 rfl rfl)
theorem dX1_decompose_3 : decode cX1_decompose 3 = .ok (.invokevirtual 221, 3) := dk_182 0 221 (dk_at dksX1_decompose_0 3 rfl rfl)
theorem dX1_decompose_6 : decode cX1_decompose 6 = .ok (.aload_n 0, 1) := dk_42 (dk_at dksX1_decompose_0 6 rfl rfl)
theorem dX1_decompose_7 : decode cX1_decompose 7 = .ok (.getfield 12, 3) := dk_180 0 12 (dk_at dksX1_decompose_0 7 rfl rfl)
theorem dX1_decompose_10 : decode cX1_decompose 10 = .ok (.getfield 95, 3) := dk_180 0 95 (dk_at dksX1_decompose_0 10 rfl rfl)
theorem dX1_decompose_13 : decode cX1_decompose 13 = .ok (.iload_n 1, 1) := dk_27 (dk_at dksX1_decompose_0 13 rfl rfl)
theorem dX1_decompose_14 : decode cX1_decompose 14 = .ok (.iload_n 2, 1) := dk_28 (dk_at dksX1_decompose_0 14 rfl rfl)
theorem dX1_decompose_15 : decode cX1_decompose 15 = .ok (.invokevirtual 310, 3) := dk_182 1 54 (dk_at dksX1_decompose_0 15 rfl rfl)
theorem dX1_decompose_18 : decode cX1_decompose 18 = .ok (.ireturn, 1) := dk_172 (dk_at dksX1_decompose_0 18 rfl rfl)
abbrev cX1_element : ByteArray := prog_1_method_50_code
def yX1_element : MethodName := ⟨RX1, "element", "(II)I"⟩
def dkwX1_element_1 : List UInt8 := [182, 1, 57, 28, 182, 1, 30, 172]
abbrev dktX1_element_1 : List UInt8 := dkwX1_element_1 ++ []
def dkwX1_element_0 : List UInt8 := [28, 3, 5, 184, 0, 88, 184, 0, 188, 42, 27, 3, 182, 0, 221, 42, 180, 0, 12, 180, 0, 95, 27]
abbrev dktX1_element_0 : List UInt8 := dkwX1_element_0 ++ dktX1_element_1
theorem dksX1_element_0 : cX1_element.data.toList.drop 0 = dktX1_element_0 := by decide +kernel
theorem dksX1_element_1 : cX1_element.data.toList.drop 23 = dktX1_element_1 := dk_seg dksX1_element_0 23 rfl rfl
theorem dX1_element_0 : decode cX1_element 0 = .ok (.iload_n 2, 1) := dk_28 (dk_at dksX1_element_0 0 rfl rfl)
theorem dX1_element_1 : decode cX1_element 1 = .ok (.iconst 0, 1) := dk_3 (dk_at dksX1_element_0 1 rfl rfl)
theorem dX1_element_2 : decode cX1_element 2 = .ok (.iconst 2, 1) := dk_5 (dk_at dksX1_element_0 2 rfl rfl)
theorem dX1_element_3 : decode cX1_element 3 = .ok (.invokestatic 88, 3) := dk_184 0 88 (dk_at dksX1_element_0 3 rfl rfl)
theorem dX1_element_6 : decode cX1_element 6 = .ok (.invokestatic 188, 3) := dk_184 0 188 (dk_at dksX1_element_0 6 rfl rfl)
theorem dX1_element_9 : decode cX1_element 9 = .ok (.aload_n 0, 1) := dk_42 (dk_at dksX1_element_0 9 rfl rfl)
theorem dX1_element_10 : decode cX1_element 10 = .ok (.iload_n 1, 1) := dk_27 (dk_at dksX1_element_0 10 rfl rfl)
theorem dX1_element_11 : decode cX1_element 11 = .ok (.iconst 0, 1) := dk_3 (dk_at dksX1_element_0 11 rfl rfl)
theorem dX1_element_12 : decode cX1_element 12 = .ok (.invokevirtual 221, 3) := dk_182 0 221 (dk_at dksX1_element_0 12 rfl rfl)
theorem dX1_element_15 : decode cX1_element 15 = .ok (.aload_n 0, 1) := dk_42 (dk_at dksX1_element_0 15 rfl rfl)
theorem dX1_element_16 : decode cX1_element 16 = .ok (.getfield 12, 3) := dk_180 0 12 (dk_at dksX1_element_0 16 rfl rfl)
theorem dX1_element_19 : decode cX1_element 19 = .ok (.getfield 95, 3) := dk_180 0 95 (dk_at dksX1_element_0 19 rfl rfl)
theorem dX1_element_22 : decode cX1_element 22 = .ok (.iload_n 1, 1) := dk_27 (dk_at dksX1_element_0 22 rfl rfl)
theorem dX1_element_23 : decode cX1_element 23 = .ok (.invokevirtual 313, 3) := dk_182 1 57 (dk_at dksX1_element_1 0 rfl rfl)
theorem dX1_element_26 : decode cX1_element 26 = .ok (.iload_n 2, 1) := dk_28 (dk_at dksX1_element_1 3 rfl rfl)
theorem dX1_element_27 : decode cX1_element 27 = .ok (.invokevirtual 286, 3) := dk_182 1 30 (dk_at dksX1_element_1 4 rfl rfl)
theorem dX1_element_30 : decode cX1_element 30 = .ok (.ireturn, 1) := dk_172 (dk_at dksX1_element_1 7 rfl rfl)
abbrev cX1_lightest : ByteArray := prog_1_method_53_code
def yX1_lightest : MethodName := ⟨RX1, "lightest", "(I)I"⟩
def dkwX1_lightest_3 : List UInt8 := [182, 1, 30, 172]
abbrev dktX1_lightest_3 : List UInt8 := dkwX1_lightest_3 ++ []
def dkwX1_lightest_2 : List UInt8 := [158, 0, 19, 44, 198, 0, 12, 25, 4, 44, 184, 1, 76, 153, 0, 6, 25, 4, 77, 167, 255, 212, 44, 27]
abbrev dktX1_lightest_2 : List UInt8 := dkwX1_lightest_2 ++ dktX1_lightest_3
def dkwX1_lightest_1 : List UInt8 := [185, 1, 65, 1, 0, 153, 0, 41, 45, 185, 1, 70, 1, 0, 192, 0, 224, 58, 4, 25, 4, 182, 1, 73]
abbrev dktX1_lightest_1 : List UInt8 := dkwX1_lightest_1 ++ dktX1_lightest_2
def dkwX1_lightest_0 : List UInt8 := [27, 3, 6, 184, 0, 88, 184, 0, 188, 1, 77, 42, 180, 0, 12, 180, 0, 95, 182, 1, 61, 78, 45]
abbrev dktX1_lightest_0 : List UInt8 := dkwX1_lightest_0 ++ dktX1_lightest_1
theorem dksX1_lightest_0 : cX1_lightest.data.toList.drop 0 = dktX1_lightest_0 := by decide +kernel
theorem dksX1_lightest_1 : cX1_lightest.data.toList.drop 23 = dktX1_lightest_1 := dk_seg dksX1_lightest_0 23 rfl rfl
theorem dksX1_lightest_2 : cX1_lightest.data.toList.drop 47 = dktX1_lightest_2 := dk_seg dksX1_lightest_1 24 rfl rfl
theorem dksX1_lightest_3 : cX1_lightest.data.toList.drop 71 = dktX1_lightest_3 := dk_seg dksX1_lightest_2 24 rfl rfl
theorem dX1_lightest_0 : decode cX1_lightest 0 = .ok (.iload_n 1, 1) := dk_27 (dk_at dksX1_lightest_0 0 rfl rfl)
theorem dX1_lightest_1 : decode cX1_lightest 1 = .ok (.iconst 0, 1) := dk_3 (dk_at dksX1_lightest_0 1 rfl rfl)
theorem dX1_lightest_2 : decode cX1_lightest 2 = .ok (.iconst 3, 1) := dk_6 (dk_at dksX1_lightest_0 2 rfl rfl)
theorem dX1_lightest_3 : decode cX1_lightest 3 = .ok (.invokestatic 88, 3) := dk_184 0 88 (dk_at dksX1_lightest_0 3 rfl rfl)
theorem dX1_lightest_6 : decode cX1_lightest 6 = .ok (.invokestatic 188, 3) := dk_184 0 188 (dk_at dksX1_lightest_0 6 rfl rfl)
theorem dX1_lightest_9 : decode cX1_lightest 9 = .ok (.aconst_null, 1) := dk_1 (dk_at dksX1_lightest_0 9 rfl rfl)
theorem dX1_lightest_10 : decode cX1_lightest 10 = .ok (.astore_n 2, 1) := dk_77 (dk_at dksX1_lightest_0 10 rfl rfl)
theorem dX1_lightest_11 : decode cX1_lightest 11 = .ok (.aload_n 0, 1) := dk_42 (dk_at dksX1_lightest_0 11 rfl rfl)
theorem dX1_lightest_12 : decode cX1_lightest 12 = .ok (.getfield 12, 3) := dk_180 0 12 (dk_at dksX1_lightest_0 12 rfl rfl)
theorem dX1_lightest_15 : decode cX1_lightest 15 = .ok (.getfield 95, 3) := dk_180 0 95 (dk_at dksX1_lightest_0 15 rfl rfl)
theorem dX1_lightest_18 : decode cX1_lightest 18 = .ok (.invokevirtual 317, 3) := dk_182 1 61 (dk_at dksX1_lightest_0 18 rfl rfl)
theorem dX1_lightest_21 : decode cX1_lightest 21 = .ok (.astore_n 3, 1) := dk_78 (dk_at dksX1_lightest_0 21 rfl rfl)
theorem dX1_lightest_22 : decode cX1_lightest 22 = .ok (.aload_n 3, 1) := dk_45 (dk_at dksX1_lightest_0 22 rfl rfl)
theorem dX1_lightest_23 : decode cX1_lightest 23 = .ok (.invokeinterface 321 1, 5) := by decide +kernel
theorem dX1_lightest_28 : decode cX1_lightest 28 = .ok (.ifCond .eq 41, 3) := dk_153 0 41 (dk_at dksX1_lightest_1 5 rfl rfl)
theorem dX1_lightest_31 : decode cX1_lightest 31 = .ok (.aload_n 3, 1) := dk_45 (dk_at dksX1_lightest_1 8 rfl rfl)
theorem dX1_lightest_32 : decode cX1_lightest 32 = .ok (.invokeinterface 326 1, 5) := by decide +kernel
theorem dX1_lightest_37 : decode cX1_lightest 37 = .ok (.checkcast 224, 3) := dk_192 0 224 (dk_at dksX1_lightest_1 14 rfl rfl)
theorem dX1_lightest_40 : decode cX1_lightest 40 = .ok (.astore 4, 2) := dk_58 4 (dk_at dksX1_lightest_1 17 rfl rfl)
theorem dX1_lightest_42 : decode cX1_lightest 42 = .ok (.aload 4, 2) := dk_25 4 (dk_at dksX1_lightest_1 19 rfl rfl)
theorem dX1_lightest_44 : decode cX1_lightest 44 = .ok (.invokevirtual 329, 3) := dk_182 1 73 (dk_at dksX1_lightest_1 21 rfl rfl)
theorem dX1_lightest_47 : decode cX1_lightest 47 = .ok (.ifCond .le 19, 3) := dk_158 0 19 (dk_at dksX1_lightest_2 0 rfl rfl)
theorem dX1_lightest_50 : decode cX1_lightest 50 = .ok (.aload_n 2, 1) := dk_44 (dk_at dksX1_lightest_2 3 rfl rfl)
theorem dX1_lightest_51 : decode cX1_lightest 51 = .ok (.ifnull 12, 3) := dk_198 0 12 (dk_at dksX1_lightest_2 4 rfl rfl)
theorem dX1_lightest_54 : decode cX1_lightest 54 = .ok (.aload 4, 2) := dk_25 4 (dk_at dksX1_lightest_2 7 rfl rfl)
theorem dX1_lightest_56 : decode cX1_lightest 56 = .ok (.aload_n 2, 1) := dk_44 (dk_at dksX1_lightest_2 9 rfl rfl)
theorem dX1_lightest_57 : decode cX1_lightest 57 = .ok (.invokestatic 332, 3) := dk_184 1 76 (dk_at dksX1_lightest_2 10 rfl rfl)
theorem dX1_lightest_60 : decode cX1_lightest 60 = .ok (.ifCond .eq 6, 3) := dk_153 0 6 (dk_at dksX1_lightest_2 13 rfl rfl)
theorem dX1_lightest_63 : decode cX1_lightest 63 = .ok (.aload 4, 2) := dk_25 4 (dk_at dksX1_lightest_2 16 rfl rfl)
theorem dX1_lightest_65 : decode cX1_lightest 65 = .ok (.astore_n 2, 1) := dk_77 (dk_at dksX1_lightest_2 18 rfl rfl)
theorem dX1_lightest_66 : decode cX1_lightest 66 = .ok (.goto (-44), 3) := dk_167 255 212 (dk_at dksX1_lightest_2 19 rfl rfl)
theorem dX1_lightest_69 : decode cX1_lightest 69 = .ok (.aload_n 2, 1) := dk_44 (dk_at dksX1_lightest_2 22 rfl rfl)
theorem dX1_lightest_70 : decode cX1_lightest 70 = .ok (.iload_n 1, 1) := dk_27 (dk_at dksX1_lightest_2 23 rfl rfl)
theorem dX1_lightest_71 : decode cX1_lightest 71 = .ok (.invokevirtual 286, 3) := dk_182 1 30 (dk_at dksX1_lightest_3 0 rfl rfl)
theorem dX1_lightest_74 : decode cX1_lightest 74 = .ok (.ireturn, 1) := dk_172 (dk_at dksX1_lightest_3 3 rfl rfl)
abbrev cX1_isLighter : ByteArray := prog_1_method_52_code
def yX1_isLighter : MethodName := ⟨RX1, "isLighter", "(LStringTableau$Row;LStringTableau$Row;)Z"⟩
def dkwX1_isLighter_3 : List UInt8 := [167, 0, 4, 3, 172]
abbrev dktX1_isLighter_3 : List UInt8 := dkwX1_isLighter_3 ++ []
def dkwX1_isLighter_2 : List UInt8 := [162, 0, 7, 4, 167, 0, 23, 3, 167, 0, 19, 42, 180, 1, 27, 43, 180, 1, 27, 162, 0, 7, 4]
abbrev dktX1_isLighter_2 : List UInt8 := dkwX1_isLighter_2 ++ dktX1_isLighter_3
def dkwX1_isLighter_1 : List UInt8 := [167, 0, 4, 3, 172, 42, 180, 1, 24, 43, 180, 1, 24, 159, 0, 22, 42, 180, 1, 24, 43, 180, 1, 24]
abbrev dktX1_isLighter_1 : List UInt8 := dkwX1_isLighter_1 ++ dktX1_isLighter_2
def dkwX1_isLighter_0 : List UInt8 := [42, 182, 1, 73, 43, 182, 1, 73, 159, 0, 20, 42, 182, 1, 73, 43, 182, 1, 73, 162, 0, 7, 4]
abbrev dktX1_isLighter_0 : List UInt8 := dkwX1_isLighter_0 ++ dktX1_isLighter_1
theorem dksX1_isLighter_0 : cX1_isLighter.data.toList.drop 0 = dktX1_isLighter_0 := by decide +kernel
theorem dksX1_isLighter_1 : cX1_isLighter.data.toList.drop 23 = dktX1_isLighter_1 := dk_seg dksX1_isLighter_0 23 rfl rfl
theorem dksX1_isLighter_2 : cX1_isLighter.data.toList.drop 47 = dktX1_isLighter_2 := dk_seg dksX1_isLighter_1 24 rfl rfl
theorem dksX1_isLighter_3 : cX1_isLighter.data.toList.drop 70 = dktX1_isLighter_3 := dk_seg dksX1_isLighter_2 23 rfl rfl
theorem dX1_isLighter_0 : decode cX1_isLighter 0 = .ok (.aload_n 0, 1) := dk_42 (dk_at dksX1_isLighter_0 0 rfl rfl)
theorem dX1_isLighter_1 : decode cX1_isLighter 1 = .ok (.invokevirtual 329, 3) := dk_182 1 73 (dk_at dksX1_isLighter_0 1 rfl rfl)
theorem dX1_isLighter_4 : decode cX1_isLighter 4 = .ok (.aload_n 1, 1) := dk_43 (dk_at dksX1_isLighter_0 4 rfl rfl)
theorem dX1_isLighter_5 : decode cX1_isLighter 5 = .ok (.invokevirtual 329, 3) := dk_182 1 73 (dk_at dksX1_isLighter_0 5 rfl rfl)
theorem dX1_isLighter_8 : decode cX1_isLighter 8 = .ok (.if_icmp .eq 20, 3) := dk_159 0 20 (dk_at dksX1_isLighter_0 8 rfl rfl)
theorem dX1_isLighter_11 : decode cX1_isLighter 11 = .ok (.aload_n 0, 1) := dk_42 (dk_at dksX1_isLighter_0 11 rfl rfl)
theorem dX1_isLighter_12 : decode cX1_isLighter 12 = .ok (.invokevirtual 329, 3) := dk_182 1 73 (dk_at dksX1_isLighter_0 12 rfl rfl)
theorem dX1_isLighter_15 : decode cX1_isLighter 15 = .ok (.aload_n 1, 1) := dk_43 (dk_at dksX1_isLighter_0 15 rfl rfl)
theorem dX1_isLighter_16 : decode cX1_isLighter 16 = .ok (.invokevirtual 329, 3) := dk_182 1 73 (dk_at dksX1_isLighter_0 16 rfl rfl)
theorem dX1_isLighter_19 : decode cX1_isLighter 19 = .ok (.if_icmp .ge 7, 3) := dk_162 0 7 (dk_at dksX1_isLighter_0 19 rfl rfl)
theorem dX1_isLighter_22 : decode cX1_isLighter 22 = .ok (.iconst 1, 1) := dk_4 (dk_at dksX1_isLighter_0 22 rfl rfl)
theorem dX1_isLighter_23 : decode cX1_isLighter 23 = .ok (.goto 4, 3) := dk_167 0 4 (dk_at dksX1_isLighter_1 0 rfl rfl)
theorem dX1_isLighter_26 : decode cX1_isLighter 26 = .ok (.iconst 0, 1) := dk_3 (dk_at dksX1_isLighter_1 3 rfl rfl)
theorem dX1_isLighter_27 : decode cX1_isLighter 27 = .ok (.ireturn, 1) := dk_172 (dk_at dksX1_isLighter_1 4 rfl rfl)
theorem dX1_isLighter_28 : decode cX1_isLighter 28 = .ok (.aload_n 0, 1) := dk_42 (dk_at dksX1_isLighter_1 5 rfl rfl)
theorem dX1_isLighter_29 : decode cX1_isLighter 29 = .ok (.getfield 280, 3) := dk_180 1 24 (dk_at dksX1_isLighter_1 6 rfl rfl)
theorem dX1_isLighter_32 : decode cX1_isLighter 32 = .ok (.aload_n 1, 1) := dk_43 (dk_at dksX1_isLighter_1 9 rfl rfl)
theorem dX1_isLighter_33 : decode cX1_isLighter 33 = .ok (.getfield 280, 3) := dk_180 1 24 (dk_at dksX1_isLighter_1 10 rfl rfl)
theorem dX1_isLighter_36 : decode cX1_isLighter 36 = .ok (.if_icmp .eq 22, 3) := dk_159 0 22 (dk_at dksX1_isLighter_1 13 rfl rfl)
theorem dX1_isLighter_39 : decode cX1_isLighter 39 = .ok (.aload_n 0, 1) := dk_42 (dk_at dksX1_isLighter_1 16 rfl rfl)
theorem dX1_isLighter_40 : decode cX1_isLighter 40 = .ok (.getfield 280, 3) := dk_180 1 24 (dk_at dksX1_isLighter_1 17 rfl rfl)
theorem dX1_isLighter_43 : decode cX1_isLighter 43 = .ok (.aload_n 1, 1) := dk_43 (dk_at dksX1_isLighter_1 20 rfl rfl)
theorem dX1_isLighter_44 : decode cX1_isLighter 44 = .ok (.getfield 280, 3) := dk_180 1 24 (dk_at dksX1_isLighter_1 21 rfl rfl)
theorem dX1_isLighter_47 : decode cX1_isLighter 47 = .ok (.if_icmp .ge 7, 3) := dk_162 0 7 (dk_at dksX1_isLighter_2 0 rfl rfl)
theorem dX1_isLighter_50 : decode cX1_isLighter 50 = .ok (.iconst 1, 1) := dk_4 (dk_at dksX1_isLighter_2 3 rfl rfl)
theorem dX1_isLighter_51 : decode cX1_isLighter 51 = .ok (.goto 23, 3) := dk_167 0 23 (dk_at dksX1_isLighter_2 4 rfl rfl)
theorem dX1_isLighter_54 : decode cX1_isLighter 54 = .ok (.iconst 0, 1) := dk_3 (dk_at dksX1_isLighter_2 7 rfl rfl)
theorem dX1_isLighter_55 : decode cX1_isLighter 55 = .ok (.goto 19, 3) := dk_167 0 19 (dk_at dksX1_isLighter_2 8 rfl rfl)
theorem dX1_isLighter_58 : decode cX1_isLighter 58 = .ok (.aload_n 0, 1) := dk_42 (dk_at dksX1_isLighter_2 11 rfl rfl)
theorem dX1_isLighter_59 : decode cX1_isLighter 59 = .ok (.getfield 283, 3) := dk_180 1 27 (dk_at dksX1_isLighter_2 12 rfl rfl)
theorem dX1_isLighter_62 : decode cX1_isLighter 62 = .ok (.aload_n 1, 1) := dk_43 (dk_at dksX1_isLighter_2 15 rfl rfl)
theorem dX1_isLighter_63 : decode cX1_isLighter 63 = .ok (.getfield 283, 3) := dk_180 1 27 (dk_at dksX1_isLighter_2 16 rfl rfl)
theorem dX1_isLighter_66 : decode cX1_isLighter 66 = .ok (.if_icmp .ge 7, 3) := dk_162 0 7 (dk_at dksX1_isLighter_2 19 rfl rfl)
theorem dX1_isLighter_69 : decode cX1_isLighter 69 = .ok (.iconst 1, 1) := dk_4 (dk_at dksX1_isLighter_2 22 rfl rfl)
theorem dX1_isLighter_70 : decode cX1_isLighter 70 = .ok (.goto 4, 3) := dk_167 0 4 (dk_at dksX1_isLighter_3 0 rfl rfl)
theorem dX1_isLighter_73 : decode cX1_isLighter 73 = .ok (.iconst 0, 1) := dk_3 (dk_at dksX1_isLighter_3 3 rfl rfl)
theorem dX1_isLighter_74 : decode cX1_isLighter 74 = .ok (.ireturn, 1) := dk_172 (dk_at dksX1_isLighter_3 4 rfl rfl)
abbrev cX1_pushed : ByteArray := prog_1_method_57_code
def yX1_pushed : MethodName := ⟨RX1, "pushed", "(IIIII)I"⟩
def dkwX1_pushed_1 : List UInt8 := [182, 1, 30, 172]
abbrev dktX1_pushed_1 : List UInt8 := dkwX1_pushed_1 ++ []
def dkwX1_pushed_0 : List UInt8 := [42, 27, 28, 29, 21, 4, 21, 5, 182, 1, 86, 42, 27, 28, 29, 21, 4, 3, 182, 1, 90, 21, 5]
abbrev dktX1_pushed_0 : List UInt8 := dkwX1_pushed_0 ++ dktX1_pushed_1
theorem dksX1_pushed_0 : cX1_pushed.data.toList.drop 0 = dktX1_pushed_0 := by decide +kernel
theorem dksX1_pushed_1 : cX1_pushed.data.toList.drop 23 = dktX1_pushed_1 := dk_seg dksX1_pushed_0 23 rfl rfl
theorem dX1_pushed_0 : decode cX1_pushed 0 = .ok (.aload_n 0, 1) := dk_42 (dk_at dksX1_pushed_0 0 rfl rfl)
theorem dX1_pushed_1 : decode cX1_pushed 1 = .ok (.iload_n 1, 1) := dk_27 (dk_at dksX1_pushed_0 1 rfl rfl)
theorem dX1_pushed_2 : decode cX1_pushed 2 = .ok (.iload_n 2, 1) := dk_28 (dk_at dksX1_pushed_0 2 rfl rfl)
theorem dX1_pushed_3 : decode cX1_pushed 3 = .ok (.iload_n 3, 1) := dk_29 (dk_at dksX1_pushed_0 3 rfl rfl)
theorem dX1_pushed_4 : decode cX1_pushed 4 = .ok (.iload 4, 2) := dk_21 4 (dk_at dksX1_pushed_0 4 rfl rfl)
theorem dX1_pushed_6 : decode cX1_pushed 6 = .ok (.iload 5, 2) := dk_21 5 (dk_at dksX1_pushed_0 6 rfl rfl)
theorem dX1_pushed_8 : decode cX1_pushed 8 = .ok (.invokevirtual 342, 3) := dk_182 1 86 (dk_at dksX1_pushed_0 8 rfl rfl)
theorem dX1_pushed_11 : decode cX1_pushed 11 = .ok (.aload_n 0, 1) := dk_42 (dk_at dksX1_pushed_0 11 rfl rfl)
theorem dX1_pushed_12 : decode cX1_pushed 12 = .ok (.iload_n 1, 1) := dk_27 (dk_at dksX1_pushed_0 12 rfl rfl)
theorem dX1_pushed_13 : decode cX1_pushed 13 = .ok (.iload_n 2, 1) := dk_28 (dk_at dksX1_pushed_0 13 rfl rfl)
theorem dX1_pushed_14 : decode cX1_pushed 14 = .ok (.iload_n 3, 1) := dk_29 (dk_at dksX1_pushed_0 14 rfl rfl)
theorem dX1_pushed_15 : decode cX1_pushed 15 = .ok (.iload 4, 2) := dk_21 4 (dk_at dksX1_pushed_0 15 rfl rfl)
theorem dX1_pushed_17 : decode cX1_pushed 17 = .ok (.iconst 0, 1) := dk_3 (dk_at dksX1_pushed_0 17 rfl rfl)
theorem dX1_pushed_18 : decode cX1_pushed 18 = .ok (.invokevirtual 346, 3) := dk_182 1 90 (dk_at dksX1_pushed_0 18 rfl rfl)
theorem dX1_pushed_21 : decode cX1_pushed 21 = .ok (.iload 5, 2) := dk_21 5 (dk_at dksX1_pushed_0 21 rfl rfl)
theorem dX1_pushed_23 : decode cX1_pushed 23 = .ok (.invokevirtual 286, 3) := dk_182 1 30 (dk_at dksX1_pushed_1 0 rfl rfl)
theorem dX1_pushed_26 : decode cX1_pushed 26 = .ok (.ireturn, 1) := dk_172 (dk_at dksX1_pushed_1 3 rfl rfl)
abbrev cX1_checkMove : ByteArray := prog_1_method_55_code
def yX1_checkMove : MethodName := ⟨RX1, "checkMove", "(IIIII)V"⟩
def dkwX1_checkMove_1 : List UInt8 := [5, 184, 0, 88, 153, 0, 7, 4, 167, 0, 4, 3, 184, 0, 188, 42, 29, 21, 4, 182, 0, 221, 177]
abbrev dktX1_checkMove_1 : List UInt8 := dkwX1_checkMove_1 ++ []
def dkwX1_checkMove_0 : List UInt8 := [27, 155, 0, 34, 28, 27, 42, 180, 0, 21, 185, 0, 149, 1, 0, 184, 0, 88, 153, 0, 17, 21, 5, 3]
abbrev dktX1_checkMove_0 : List UInt8 := dkwX1_checkMove_0 ++ dktX1_checkMove_1
theorem dksX1_checkMove_0 : cX1_checkMove.data.toList.drop 0 = dktX1_checkMove_0 := by decide +kernel
theorem dksX1_checkMove_1 : cX1_checkMove.data.toList.drop 24 = dktX1_checkMove_1 := dk_seg dksX1_checkMove_0 24 rfl rfl
theorem dX1_checkMove_0 : decode cX1_checkMove 0 = .ok (.iload_n 1, 1) := dk_27 (dk_at dksX1_checkMove_0 0 rfl rfl)
theorem dX1_checkMove_1 : decode cX1_checkMove 1 = .ok (.ifCond .lt 34, 3) := dk_155 0 34 (dk_at dksX1_checkMove_0 1 rfl rfl)
theorem dX1_checkMove_4 : decode cX1_checkMove 4 = .ok (.iload_n 2, 1) := dk_28 (dk_at dksX1_checkMove_0 4 rfl rfl)
theorem dX1_checkMove_5 : decode cX1_checkMove 5 = .ok (.iload_n 1, 1) := dk_27 (dk_at dksX1_checkMove_0 5 rfl rfl)
theorem dX1_checkMove_6 : decode cX1_checkMove 6 = .ok (.aload_n 0, 1) := dk_42 (dk_at dksX1_checkMove_0 6 rfl rfl)
theorem dX1_checkMove_7 : decode cX1_checkMove 7 = .ok (.getfield 21, 3) := dk_180 0 21 (dk_at dksX1_checkMove_0 7 rfl rfl)
theorem dX1_checkMove_10 : decode cX1_checkMove 10 = .ok (.invokeinterface 149 1, 5) := by decide +kernel
theorem dX1_checkMove_15 : decode cX1_checkMove 15 = .ok (.invokestatic 88, 3) := dk_184 0 88 (dk_at dksX1_checkMove_0 15 rfl rfl)
theorem dX1_checkMove_18 : decode cX1_checkMove 18 = .ok (.ifCond .eq 17, 3) := dk_153 0 17 (dk_at dksX1_checkMove_0 18 rfl rfl)
theorem dX1_checkMove_21 : decode cX1_checkMove 21 = .ok (.iload 5, 2) := dk_21 5 (dk_at dksX1_checkMove_0 21 rfl rfl)
theorem dX1_checkMove_23 : decode cX1_checkMove 23 = .ok (.iconst 0, 1) := dk_3 (dk_at dksX1_checkMove_0 23 rfl rfl)
theorem dX1_checkMove_24 : decode cX1_checkMove 24 = .ok (.iconst 2, 1) := dk_5 (dk_at dksX1_checkMove_1 0 rfl rfl)
theorem dX1_checkMove_25 : decode cX1_checkMove 25 = .ok (.invokestatic 88, 3) := dk_184 0 88 (dk_at dksX1_checkMove_1 1 rfl rfl)
theorem dX1_checkMove_28 : decode cX1_checkMove 28 = .ok (.ifCond .eq 7, 3) := dk_153 0 7 (dk_at dksX1_checkMove_1 4 rfl rfl)
theorem dX1_checkMove_31 : decode cX1_checkMove 31 = .ok (.iconst 1, 1) := dk_4 (dk_at dksX1_checkMove_1 7 rfl rfl)
theorem dX1_checkMove_32 : decode cX1_checkMove 32 = .ok (.goto 4, 3) := dk_167 0 4 (dk_at dksX1_checkMove_1 8 rfl rfl)
theorem dX1_checkMove_35 : decode cX1_checkMove 35 = .ok (.iconst 0, 1) := dk_3 (dk_at dksX1_checkMove_1 11 rfl rfl)
theorem dX1_checkMove_36 : decode cX1_checkMove 36 = .ok (.invokestatic 188, 3) := dk_184 0 188 (dk_at dksX1_checkMove_1 12 rfl rfl)
theorem dX1_checkMove_39 : decode cX1_checkMove 39 = .ok (.aload_n 0, 1) := dk_42 (dk_at dksX1_checkMove_1 15 rfl rfl)
theorem dX1_checkMove_40 : decode cX1_checkMove 40 = .ok (.iload_n 3, 1) := dk_29 (dk_at dksX1_checkMove_1 16 rfl rfl)
theorem dX1_checkMove_41 : decode cX1_checkMove 41 = .ok (.iload 4, 2) := dk_21 4 (dk_at dksX1_checkMove_1 17 rfl rfl)
theorem dX1_checkMove_43 : decode cX1_checkMove 43 = .ok (.invokevirtual 221, 3) := dk_182 0 221 (dk_at dksX1_checkMove_1 19 rfl rfl)
theorem dX1_checkMove_46 : decode cX1_checkMove 46 = .ok (.return_, 1) := dk_177 (dk_at dksX1_checkMove_1 22 rfl rfl)
abbrev cX1_moved : ByteArray := prog_1_method_54_code
def yX1_moved : MethodName := ⟨RX1, "moved", "(IIIIZ)LStringTableau$Row;"⟩
def dkwX1_moved_4 : List UInt8 := [182, 1, 82, 132, 7, 1, 167, 255, 204, 25, 6, 176]
abbrev dktX1_moved_4 : List UInt8 := dkwX1_moved_4 ++ []
def dkwX1_moved_3 : List UInt8 := [100, 167, 0, 7, 27, 21, 7, 96, 185, 0, 163, 2, 0, 192, 1, 80, 58, 8, 25, 8, 25, 6, 21, 5]
abbrev dktX1_moved_3 : List UInt8 := dkwX1_moved_3 ++ dktX1_moved_4
def dkwX1_moved_2 : List UInt8 := [54, 7, 21, 7, 28, 27, 100, 162, 0, 50, 42, 180, 0, 21, 21, 5, 153, 0, 12, 28, 4, 100, 21, 7]
abbrev dktX1_moved_2 : List UInt8 := dkwX1_moved_2 ++ dktX1_moved_3
def dkwX1_moved_1 : List UInt8 := [184, 0, 233, 132, 6, 1, 167, 255, 230, 187, 0, 224, 89, 29, 21, 4, 3, 183, 0, 226, 58, 6, 3]
abbrev dktX1_moved_1 : List UInt8 := dkwX1_moved_1 ++ dktX1_moved_2
def dkwX1_moved_0 : List UInt8 := [27, 54, 6, 21, 6, 28, 162, 0, 26, 42, 180, 0, 21, 21, 6, 185, 0, 163, 2, 0, 193, 1, 80]
abbrev dktX1_moved_0 : List UInt8 := dkwX1_moved_0 ++ dktX1_moved_1
theorem dksX1_moved_0 : cX1_moved.data.toList.drop 0 = dktX1_moved_0 := by decide +kernel
theorem dksX1_moved_1 : cX1_moved.data.toList.drop 23 = dktX1_moved_1 := dk_seg dksX1_moved_0 23 rfl rfl
theorem dksX1_moved_2 : cX1_moved.data.toList.drop 46 = dktX1_moved_2 := dk_seg dksX1_moved_1 23 rfl rfl
theorem dksX1_moved_3 : cX1_moved.data.toList.drop 70 = dktX1_moved_3 := dk_seg dksX1_moved_2 24 rfl rfl
theorem dksX1_moved_4 : cX1_moved.data.toList.drop 94 = dktX1_moved_4 := dk_seg dksX1_moved_3 24 rfl rfl
theorem dX1_moved_0 : decode cX1_moved 0 = .ok (.iload_n 1, 1) := dk_27 (dk_at dksX1_moved_0 0 rfl rfl)
theorem dX1_moved_1 : decode cX1_moved 1 = .ok (.istore 6, 2) := dk_54 6 (dk_at dksX1_moved_0 1 rfl rfl)
theorem dX1_moved_3 : decode cX1_moved 3 = .ok (.iload 6, 2) := dk_21 6 (dk_at dksX1_moved_0 3 rfl rfl)
theorem dX1_moved_5 : decode cX1_moved 5 = .ok (.iload_n 2, 1) := dk_28 (dk_at dksX1_moved_0 5 rfl rfl)
theorem dX1_moved_6 : decode cX1_moved 6 = .ok (.if_icmp .ge 26, 3) := dk_162 0 26 (dk_at dksX1_moved_0 6 rfl rfl)
theorem dX1_moved_9 : decode cX1_moved 9 = .ok (.aload_n 0, 1) := dk_42 (dk_at dksX1_moved_0 9 rfl rfl)
theorem dX1_moved_10 : decode cX1_moved 10 = .ok (.getfield 21, 3) := dk_180 0 21 (dk_at dksX1_moved_0 10 rfl rfl)
theorem dX1_moved_13 : decode cX1_moved 13 = .ok (.iload 6, 2) := dk_21 6 (dk_at dksX1_moved_0 13 rfl rfl)
theorem dX1_moved_15 : decode cX1_moved 15 = .ok (.invokeinterface 163 2, 5) := by decide +kernel
theorem dX1_moved_20 : decode cX1_moved 20 = .ok (.instanceof 336, 3) := dk_193 1 80 (dk_at dksX1_moved_0 20 rfl rfl)
theorem dX1_moved_23 : decode cX1_moved 23 = .ok (.invokestatic 233, 3) := dk_184 0 233 (dk_at dksX1_moved_1 0 rfl rfl)
theorem dX1_moved_26 : decode cX1_moved 26 = .ok (.iinc 6 1, 3) := dk_132 6 1 (dk_at dksX1_moved_1 3 rfl rfl)
theorem dX1_moved_29 : decode cX1_moved 29 = .ok (.goto (-26), 3) := dk_167 255 230 (dk_at dksX1_moved_1 6 rfl rfl)
theorem dX1_moved_32 : decode cX1_moved 32 = .ok (.new 224, 3) := dk_187 0 224 (dk_at dksX1_moved_1 9 rfl rfl)
theorem dX1_moved_35 : decode cX1_moved 35 = .ok (.dup, 1) := dk_89 (dk_at dksX1_moved_1 12 rfl rfl)
theorem dX1_moved_36 : decode cX1_moved 36 = .ok (.iload_n 3, 1) := dk_29 (dk_at dksX1_moved_1 13 rfl rfl)
theorem dX1_moved_37 : decode cX1_moved 37 = .ok (.iload 4, 2) := dk_21 4 (dk_at dksX1_moved_1 14 rfl rfl)
theorem dX1_moved_39 : decode cX1_moved 39 = .ok (.iconst 0, 1) := dk_3 (dk_at dksX1_moved_1 16 rfl rfl)
theorem dX1_moved_40 : decode cX1_moved 40 = .ok (.invokespecial 226, 3) := dk_183 0 226 (dk_at dksX1_moved_1 17 rfl rfl)
theorem dX1_moved_43 : decode cX1_moved 43 = .ok (.astore 6, 2) := dk_58 6 (dk_at dksX1_moved_1 20 rfl rfl)
theorem dX1_moved_45 : decode cX1_moved 45 = .ok (.iconst 0, 1) := dk_3 (dk_at dksX1_moved_1 22 rfl rfl)
theorem dX1_moved_46 : decode cX1_moved 46 = .ok (.istore 7, 2) := dk_54 7 (dk_at dksX1_moved_2 0 rfl rfl)
theorem dX1_moved_48 : decode cX1_moved 48 = .ok (.iload 7, 2) := dk_21 7 (dk_at dksX1_moved_2 2 rfl rfl)
theorem dX1_moved_50 : decode cX1_moved 50 = .ok (.iload_n 2, 1) := dk_28 (dk_at dksX1_moved_2 4 rfl rfl)
theorem dX1_moved_51 : decode cX1_moved 51 = .ok (.iload_n 1, 1) := dk_27 (dk_at dksX1_moved_2 5 rfl rfl)
theorem dX1_moved_52 : decode cX1_moved 52 = .ok (.isub, 1) := dk_100 (dk_at dksX1_moved_2 6 rfl rfl)
theorem dX1_moved_53 : decode cX1_moved 53 = .ok (.if_icmp .ge 50, 3) := dk_162 0 50 (dk_at dksX1_moved_2 7 rfl rfl)
theorem dX1_moved_56 : decode cX1_moved 56 = .ok (.aload_n 0, 1) := dk_42 (dk_at dksX1_moved_2 10 rfl rfl)
theorem dX1_moved_57 : decode cX1_moved 57 = .ok (.getfield 21, 3) := dk_180 0 21 (dk_at dksX1_moved_2 11 rfl rfl)
theorem dX1_moved_60 : decode cX1_moved 60 = .ok (.iload 5, 2) := dk_21 5 (dk_at dksX1_moved_2 14 rfl rfl)
theorem dX1_moved_62 : decode cX1_moved 62 = .ok (.ifCond .eq 12, 3) := dk_153 0 12 (dk_at dksX1_moved_2 16 rfl rfl)
theorem dX1_moved_65 : decode cX1_moved 65 = .ok (.iload_n 2, 1) := dk_28 (dk_at dksX1_moved_2 19 rfl rfl)
theorem dX1_moved_66 : decode cX1_moved 66 = .ok (.iconst 1, 1) := dk_4 (dk_at dksX1_moved_2 20 rfl rfl)
theorem dX1_moved_67 : decode cX1_moved 67 = .ok (.isub, 1) := dk_100 (dk_at dksX1_moved_2 21 rfl rfl)
theorem dX1_moved_68 : decode cX1_moved 68 = .ok (.iload 7, 2) := dk_21 7 (dk_at dksX1_moved_2 22 rfl rfl)
theorem dX1_moved_70 : decode cX1_moved 70 = .ok (.isub, 1) := dk_100 (dk_at dksX1_moved_3 0 rfl rfl)
theorem dX1_moved_71 : decode cX1_moved 71 = .ok (.goto 7, 3) := dk_167 0 7 (dk_at dksX1_moved_3 1 rfl rfl)
theorem dX1_moved_74 : decode cX1_moved 74 = .ok (.iload_n 1, 1) := dk_27 (dk_at dksX1_moved_3 4 rfl rfl)
theorem dX1_moved_75 : decode cX1_moved 75 = .ok (.iload 7, 2) := dk_21 7 (dk_at dksX1_moved_3 5 rfl rfl)
theorem dX1_moved_77 : decode cX1_moved 77 = .ok (.iadd, 1) := dk_96 (dk_at dksX1_moved_3 7 rfl rfl)
theorem dX1_moved_78 : decode cX1_moved 78 = .ok (.invokeinterface 163 2, 5) := by decide +kernel
theorem dX1_moved_83 : decode cX1_moved 83 = .ok (.checkcast 336, 3) := dk_192 1 80 (dk_at dksX1_moved_3 13 rfl rfl)
theorem dX1_moved_86 : decode cX1_moved 86 = .ok (.astore 8, 2) := dk_58 8 (dk_at dksX1_moved_3 16 rfl rfl)
theorem dX1_moved_88 : decode cX1_moved 88 = .ok (.aload 8, 2) := dk_25 8 (dk_at dksX1_moved_3 18 rfl rfl)
theorem dX1_moved_90 : decode cX1_moved 90 = .ok (.aload 6, 2) := dk_25 6 (dk_at dksX1_moved_3 20 rfl rfl)
theorem dX1_moved_92 : decode cX1_moved 92 = .ok (.iload 5, 2) := dk_21 5 (dk_at dksX1_moved_3 22 rfl rfl)
theorem dX1_moved_94 : decode cX1_moved 94 = .ok (.invokevirtual 338, 3) := dk_182 1 82 (dk_at dksX1_moved_4 0 rfl rfl)
theorem dX1_moved_97 : decode cX1_moved 97 = .ok (.iinc 7 1, 3) := dk_132 7 1 (dk_at dksX1_moved_4 3 rfl rfl)
theorem dX1_moved_100 : decode cX1_moved 100 = .ok (.goto (-52), 3) := dk_167 255 204 (dk_at dksX1_moved_4 6 rfl rfl)
theorem dX1_moved_103 : decode cX1_moved 103 = .ok (.aload 6, 2) := dk_25 6 (dk_at dksX1_moved_4 9 rfl rfl)
theorem dX1_moved_105 : decode cX1_moved 105 = .ok (.areturn, 1) := dk_176 (dk_at dksX1_moved_4 11 rfl rfl)
abbrev cX1_pulled : ByteArray := prog_1_method_56_code
def yX1_pulled : MethodName := ⟨RX1, "pulled", "(IIIII)I"⟩
def dkwX1_pulled_1 : List UInt8 := [182, 1, 30, 172]
abbrev dktX1_pulled_1 : List UInt8 := dkwX1_pulled_1 ++ []
def dkwX1_pulled_0 : List UInt8 := [42, 27, 28, 29, 21, 4, 21, 5, 182, 1, 86, 42, 27, 28, 29, 21, 4, 4, 182, 1, 90, 21, 5]
abbrev dktX1_pulled_0 : List UInt8 := dkwX1_pulled_0 ++ dktX1_pulled_1
theorem dksX1_pulled_0 : cX1_pulled.data.toList.drop 0 = dktX1_pulled_0 := by decide +kernel
theorem dksX1_pulled_1 : cX1_pulled.data.toList.drop 23 = dktX1_pulled_1 := dk_seg dksX1_pulled_0 23 rfl rfl
theorem dX1_pulled_0 : decode cX1_pulled 0 = .ok (.aload_n 0, 1) := dk_42 (dk_at dksX1_pulled_0 0 rfl rfl)
theorem dX1_pulled_1 : decode cX1_pulled 1 = .ok (.iload_n 1, 1) := dk_27 (dk_at dksX1_pulled_0 1 rfl rfl)
theorem dX1_pulled_2 : decode cX1_pulled 2 = .ok (.iload_n 2, 1) := dk_28 (dk_at dksX1_pulled_0 2 rfl rfl)
theorem dX1_pulled_3 : decode cX1_pulled 3 = .ok (.iload_n 3, 1) := dk_29 (dk_at dksX1_pulled_0 3 rfl rfl)
theorem dX1_pulled_4 : decode cX1_pulled 4 = .ok (.iload 4, 2) := dk_21 4 (dk_at dksX1_pulled_0 4 rfl rfl)
theorem dX1_pulled_6 : decode cX1_pulled 6 = .ok (.iload 5, 2) := dk_21 5 (dk_at dksX1_pulled_0 6 rfl rfl)
theorem dX1_pulled_8 : decode cX1_pulled 8 = .ok (.invokevirtual 342, 3) := dk_182 1 86 (dk_at dksX1_pulled_0 8 rfl rfl)
theorem dX1_pulled_11 : decode cX1_pulled 11 = .ok (.aload_n 0, 1) := dk_42 (dk_at dksX1_pulled_0 11 rfl rfl)
theorem dX1_pulled_12 : decode cX1_pulled 12 = .ok (.iload_n 1, 1) := dk_27 (dk_at dksX1_pulled_0 12 rfl rfl)
theorem dX1_pulled_13 : decode cX1_pulled 13 = .ok (.iload_n 2, 1) := dk_28 (dk_at dksX1_pulled_0 13 rfl rfl)
theorem dX1_pulled_14 : decode cX1_pulled 14 = .ok (.iload_n 3, 1) := dk_29 (dk_at dksX1_pulled_0 14 rfl rfl)
theorem dX1_pulled_15 : decode cX1_pulled 15 = .ok (.iload 4, 2) := dk_21 4 (dk_at dksX1_pulled_0 15 rfl rfl)
theorem dX1_pulled_17 : decode cX1_pulled 17 = .ok (.iconst 1, 1) := dk_4 (dk_at dksX1_pulled_0 17 rfl rfl)
theorem dX1_pulled_18 : decode cX1_pulled 18 = .ok (.invokevirtual 346, 3) := dk_182 1 90 (dk_at dksX1_pulled_0 18 rfl rfl)
theorem dX1_pulled_21 : decode cX1_pulled 21 = .ok (.iload 5, 2) := dk_21 5 (dk_at dksX1_pulled_0 21 rfl rfl)
theorem dX1_pulled_23 : decode cX1_pulled 23 = .ok (.invokevirtual 286, 3) := dk_182 1 30 (dk_at dksX1_pulled_1 0 rfl rfl)
theorem dX1_pulled_26 : decode cX1_pulled 26 = .ok (.ireturn, 1) := dk_172 (dk_at dksX1_pulled_1 3 rfl rfl)
abbrev cX1_partner : ByteArray := prog_1_method_58_code
def yX1_partner : MethodName := ⟨RX1, "partner", "(II)I"⟩
def dkwX1_partner_3 : List UInt8 := [132, 5, 1, 167, 255, 215, 132, 4, 1, 167, 255, 200, 2, 172]
abbrev dktX1_partner_3 : List UInt8 := dkwX1_partner_3 ++ []
def dkwX1_partner_2 : List UInt8 := [21, 5, 182, 1, 46, 4, 27, 120, 160, 0, 15, 28, 154, 0, 8, 21, 4, 167, 0, 5, 21, 5, 172]
abbrev dktX1_partner_2 : List UInt8 := dkwX1_partner_2 ++ dktX1_partner_3
def dkwX1_partner_1 : List UInt8 := [21, 4, 29, 162, 0, 56, 3, 54, 5, 21, 5, 29, 162, 0, 41, 42, 180, 0, 12, 180, 0, 95, 21, 4]
abbrev dktX1_partner_1 : List UInt8 := dkwX1_partner_1 ++ dktX1_partner_2
def dkwX1_partner_0 : List UInt8 := [42, 27, 182, 0, 203, 28, 3, 4, 184, 0, 88, 184, 0, 188, 4, 42, 182, 0, 173, 120, 62, 3, 54, 4]
abbrev dktX1_partner_0 : List UInt8 := dkwX1_partner_0 ++ dktX1_partner_1
theorem dksX1_partner_0 : cX1_partner.data.toList.drop 0 = dktX1_partner_0 := by decide +kernel
theorem dksX1_partner_1 : cX1_partner.data.toList.drop 24 = dktX1_partner_1 := dk_seg dksX1_partner_0 24 rfl rfl
theorem dksX1_partner_2 : cX1_partner.data.toList.drop 48 = dktX1_partner_2 := dk_seg dksX1_partner_1 24 rfl rfl
theorem dksX1_partner_3 : cX1_partner.data.toList.drop 71 = dktX1_partner_3 := dk_seg dksX1_partner_2 23 rfl rfl
theorem dX1_partner_0 : decode cX1_partner 0 = .ok (.aload_n 0, 1) := dk_42 (dk_at dksX1_partner_0 0 rfl rfl)
theorem dX1_partner_1 : decode cX1_partner 1 = .ok (.iload_n 1, 1) := dk_27 (dk_at dksX1_partner_0 1 rfl rfl)
theorem dX1_partner_2 : decode cX1_partner 2 = .ok (.invokevirtual 203, 3) := dk_182 0 203 (dk_at dksX1_partner_0 2 rfl rfl)
theorem dX1_partner_5 : decode cX1_partner 5 = .ok (.iload_n 2, 1) := dk_28 (dk_at dksX1_partner_0 5 rfl rfl)
theorem dX1_partner_6 : decode cX1_partner 6 = .ok (.iconst 0, 1) := dk_3 (dk_at dksX1_partner_0 6 rfl rfl)
theorem dX1_partner_7 : decode cX1_partner 7 = .ok (.iconst 1, 1) := dk_4 (dk_at dksX1_partner_0 7 rfl rfl)
theorem dX1_partner_8 : decode cX1_partner 8 = .ok (.invokestatic 88, 3) := dk_184 0 88 (dk_at dksX1_partner_0 8 rfl rfl)
theorem dX1_partner_11 : decode cX1_partner 11 = .ok (.invokestatic 188, 3) := dk_184 0 188 (dk_at dksX1_partner_0 11 rfl rfl)
theorem dX1_partner_14 : decode cX1_partner 14 = .ok (.iconst 1, 1) := dk_4 (dk_at dksX1_partner_0 14 rfl rfl)
theorem dX1_partner_15 : decode cX1_partner 15 = .ok (.aload_n 0, 1) := dk_42 (dk_at dksX1_partner_0 15 rfl rfl)
theorem dX1_partner_16 : decode cX1_partner 16 = .ok (.invokevirtual 173, 3) := dk_182 0 173 (dk_at dksX1_partner_0 16 rfl rfl)
theorem dX1_partner_19 : decode cX1_partner 19 = .ok (.ishl, 1) := dk_120 (dk_at dksX1_partner_0 19 rfl rfl)
theorem dX1_partner_20 : decode cX1_partner 20 = .ok (.istore_n 3, 1) := dk_62 (dk_at dksX1_partner_0 20 rfl rfl)
theorem dX1_partner_21 : decode cX1_partner 21 = .ok (.iconst 0, 1) := dk_3 (dk_at dksX1_partner_0 21 rfl rfl)
theorem dX1_partner_22 : decode cX1_partner 22 = .ok (.istore 4, 2) := dk_54 4 (dk_at dksX1_partner_0 22 rfl rfl)
theorem dX1_partner_24 : decode cX1_partner 24 = .ok (.iload 4, 2) := dk_21 4 (dk_at dksX1_partner_1 0 rfl rfl)
theorem dX1_partner_26 : decode cX1_partner 26 = .ok (.iload_n 3, 1) := dk_29 (dk_at dksX1_partner_1 2 rfl rfl)
theorem dX1_partner_27 : decode cX1_partner 27 = .ok (.if_icmp .ge 56, 3) := dk_162 0 56 (dk_at dksX1_partner_1 3 rfl rfl)
theorem dX1_partner_30 : decode cX1_partner 30 = .ok (.iconst 0, 1) := dk_3 (dk_at dksX1_partner_1 6 rfl rfl)
theorem dX1_partner_31 : decode cX1_partner 31 = .ok (.istore 5, 2) := dk_54 5 (dk_at dksX1_partner_1 7 rfl rfl)
theorem dX1_partner_33 : decode cX1_partner 33 = .ok (.iload 5, 2) := dk_21 5 (dk_at dksX1_partner_1 9 rfl rfl)
theorem dX1_partner_35 : decode cX1_partner 35 = .ok (.iload_n 3, 1) := dk_29 (dk_at dksX1_partner_1 11 rfl rfl)
theorem dX1_partner_36 : decode cX1_partner 36 = .ok (.if_icmp .ge 41, 3) := dk_162 0 41 (dk_at dksX1_partner_1 12 rfl rfl)
theorem dX1_partner_39 : decode cX1_partner 39 = .ok (.aload_n 0, 1) := dk_42 (dk_at dksX1_partner_1 15 rfl rfl)
theorem dX1_partner_40 : decode cX1_partner 40 = .ok (.getfield 12, 3) := dk_180 0 12 (dk_at dksX1_partner_1 16 rfl rfl)
theorem dX1_partner_43 : decode cX1_partner 43 = .ok (.getfield 95, 3) := dk_180 0 95 (dk_at dksX1_partner_1 19 rfl rfl)
theorem dX1_partner_46 : decode cX1_partner 46 = .ok (.iload 4, 2) := dk_21 4 (dk_at dksX1_partner_1 22 rfl rfl)
theorem dX1_partner_48 : decode cX1_partner 48 = .ok (.iload 5, 2) := dk_21 5 (dk_at dksX1_partner_2 0 rfl rfl)
theorem dX1_partner_50 : decode cX1_partner 50 = .ok (.invokevirtual 302, 3) := dk_182 1 46 (dk_at dksX1_partner_2 2 rfl rfl)
theorem dX1_partner_53 : decode cX1_partner 53 = .ok (.iconst 1, 1) := dk_4 (dk_at dksX1_partner_2 5 rfl rfl)
theorem dX1_partner_54 : decode cX1_partner 54 = .ok (.iload_n 1, 1) := dk_27 (dk_at dksX1_partner_2 6 rfl rfl)
theorem dX1_partner_55 : decode cX1_partner 55 = .ok (.ishl, 1) := dk_120 (dk_at dksX1_partner_2 7 rfl rfl)
theorem dX1_partner_56 : decode cX1_partner 56 = .ok (.if_icmp .ne 15, 3) := dk_160 0 15 (dk_at dksX1_partner_2 8 rfl rfl)
theorem dX1_partner_59 : decode cX1_partner 59 = .ok (.iload_n 2, 1) := dk_28 (dk_at dksX1_partner_2 11 rfl rfl)
theorem dX1_partner_60 : decode cX1_partner 60 = .ok (.ifCond .ne 8, 3) := dk_154 0 8 (dk_at dksX1_partner_2 12 rfl rfl)
theorem dX1_partner_63 : decode cX1_partner 63 = .ok (.iload 4, 2) := dk_21 4 (dk_at dksX1_partner_2 15 rfl rfl)
theorem dX1_partner_65 : decode cX1_partner 65 = .ok (.goto 5, 3) := dk_167 0 5 (dk_at dksX1_partner_2 17 rfl rfl)
theorem dX1_partner_68 : decode cX1_partner 68 = .ok (.iload 5, 2) := dk_21 5 (dk_at dksX1_partner_2 20 rfl rfl)
theorem dX1_partner_70 : decode cX1_partner 70 = .ok (.ireturn, 1) := dk_172 (dk_at dksX1_partner_2 22 rfl rfl)
theorem dX1_partner_71 : decode cX1_partner 71 = .ok (.iinc 5 1, 3) := dk_132 5 1 (dk_at dksX1_partner_3 0 rfl rfl)
theorem dX1_partner_74 : decode cX1_partner 74 = .ok (.goto (-41), 3) := dk_167 255 215 (dk_at dksX1_partner_3 3 rfl rfl)
theorem dX1_partner_77 : decode cX1_partner 77 = .ok (.iinc 4 1, 3) := dk_132 4 1 (dk_at dksX1_partner_3 6 rfl rfl)
theorem dX1_partner_80 : decode cX1_partner 80 = .ok (.goto (-56), 3) := dk_167 255 200 (dk_at dksX1_partner_3 9 rfl rfl)
theorem dX1_partner_83 : decode cX1_partner 83 = .ok (.iconst (-1), 1) := dk_2 (dk_at dksX1_partner_3 12 rfl rfl)
theorem dX1_partner_84 : decode cX1_partner 84 = .ok (.ireturn, 1) := dk_172 (dk_at dksX1_partner_3 13 rfl rfl)
abbrev cX1_entropy : ByteArray := prog_1_method_59_code
def yX1_entropy : MethodName := ⟨RX1, "entropy", "(I)I"⟩
def dkwX1_entropy_0 : List UInt8 := [42, 27, 3, 182, 0, 221, 42, 180, 0, 12, 180, 0, 95, 182, 1, 94, 27, 184, 1, 98, 172]
abbrev dktX1_entropy_0 : List UInt8 := dkwX1_entropy_0 ++ []
theorem dksX1_entropy_0 : cX1_entropy.data.toList.drop 0 = dktX1_entropy_0 := by decide +kernel
theorem dX1_entropy_0 : decode cX1_entropy 0 = .ok (.aload_n 0, 1) := dk_42 (dk_at dksX1_entropy_0 0 rfl rfl)
theorem dX1_entropy_1 : decode cX1_entropy 1 = .ok (.iload_n 1, 1) := dk_27 (dk_at dksX1_entropy_0 1 rfl rfl)
theorem dX1_entropy_2 : decode cX1_entropy 2 = .ok (.iconst 0, 1) := dk_3 (dk_at dksX1_entropy_0 2 rfl rfl)
theorem dX1_entropy_3 : decode cX1_entropy 3 = .ok (.invokevirtual 221, 3) := dk_182 0 221 (dk_at dksX1_entropy_0 3 rfl rfl)
theorem dX1_entropy_6 : decode cX1_entropy 6 = .ok (.aload_n 0, 1) := dk_42 (dk_at dksX1_entropy_0 6 rfl rfl)
theorem dX1_entropy_7 : decode cX1_entropy 7 = .ok (.getfield 12, 3) := dk_180 0 12 (dk_at dksX1_entropy_0 7 rfl rfl)
theorem dX1_entropy_10 : decode cX1_entropy 10 = .ok (.getfield 95, 3) := dk_180 0 95 (dk_at dksX1_entropy_0 10 rfl rfl)
theorem dX1_entropy_13 : decode cX1_entropy 13 = .ok (.invokevirtual 350, 3) := dk_182 1 94 (dk_at dksX1_entropy_0 13 rfl rfl)
theorem dX1_entropy_16 : decode cX1_entropy 16 = .ok (.iload_n 1, 1) := dk_27 (dk_at dksX1_entropy_0 16 rfl rfl)
theorem dX1_entropy_17 : decode cX1_entropy 17 = .ok (.invokestatic 354, 3) := dk_184 1 98 (dk_at dksX1_entropy_0 17 rfl rfl)
theorem dX1_entropy_20 : decode cX1_entropy 20 = .ok (.ireturn, 1) := dk_172 (dk_at dksX1_entropy_0 20 rfl rfl)
abbrev cX1_block : ByteArray := prog_1_method_61_code
def yX1_block : MethodName := ⟨RX1, "block", "(I)I"⟩
def dkwX1_block_3 : List UInt8 := [167, 255, 212, 29, 172]
abbrev dktX1_block_3 : List UInt8 := dkwX1_block_3 ++ []
def dkwX1_block_2 : List UInt8 := [153, 0, 6, 167, 0, 18, 21, 4, 184, 0, 70, 29, 184, 0, 70, 163, 0, 6, 21, 4, 62, 132, 4, 255]
abbrev dktX1_block_2 : List UInt8 := dkwX1_block_2 ++ dktX1_block_3
def dkwX1_block_1 : List UInt8 := [62, 29, 54, 4, 21, 4, 158, 0, 45, 21, 4, 27, 184, 0, 62, 153, 0, 30, 44, 21, 4, 184, 1, 98]
abbrev dktX1_block_1 : List UInt8 := dkwX1_block_1 ++ dktX1_block_2
def dkwX1_block_0 : List UInt8 := [42, 27, 182, 0, 203, 42, 180, 0, 12, 180, 0, 95, 182, 1, 94, 77, 4, 42, 182, 0, 173, 120, 4, 100]
abbrev dktX1_block_0 : List UInt8 := dkwX1_block_0 ++ dktX1_block_1
theorem dksX1_block_0 : cX1_block.data.toList.drop 0 = dktX1_block_0 := by decide +kernel
theorem dksX1_block_1 : cX1_block.data.toList.drop 24 = dktX1_block_1 := dk_seg dksX1_block_0 24 rfl rfl
theorem dksX1_block_2 : cX1_block.data.toList.drop 48 = dktX1_block_2 := dk_seg dksX1_block_1 24 rfl rfl
theorem dksX1_block_3 : cX1_block.data.toList.drop 72 = dktX1_block_3 := dk_seg dksX1_block_2 24 rfl rfl
theorem dX1_block_0 : decode cX1_block 0 = .ok (.aload_n 0, 1) := dk_42 (dk_at dksX1_block_0 0 rfl rfl)
theorem dX1_block_1 : decode cX1_block 1 = .ok (.iload_n 1, 1) := dk_27 (dk_at dksX1_block_0 1 rfl rfl)
theorem dX1_block_2 : decode cX1_block 2 = .ok (.invokevirtual 203, 3) := dk_182 0 203 (dk_at dksX1_block_0 2 rfl rfl)
theorem dX1_block_5 : decode cX1_block 5 = .ok (.aload_n 0, 1) := dk_42 (dk_at dksX1_block_0 5 rfl rfl)
theorem dX1_block_6 : decode cX1_block 6 = .ok (.getfield 12, 3) := dk_180 0 12 (dk_at dksX1_block_0 6 rfl rfl)
theorem dX1_block_9 : decode cX1_block 9 = .ok (.getfield 95, 3) := dk_180 0 95 (dk_at dksX1_block_0 9 rfl rfl)
theorem dX1_block_12 : decode cX1_block 12 = .ok (.invokevirtual 350, 3) := dk_182 1 94 (dk_at dksX1_block_0 12 rfl rfl)
theorem dX1_block_15 : decode cX1_block 15 = .ok (.astore_n 2, 1) := dk_77 (dk_at dksX1_block_0 15 rfl rfl)
theorem dX1_block_16 : decode cX1_block 16 = .ok (.iconst 1, 1) := dk_4 (dk_at dksX1_block_0 16 rfl rfl)
theorem dX1_block_17 : decode cX1_block 17 = .ok (.aload_n 0, 1) := dk_42 (dk_at dksX1_block_0 17 rfl rfl)
theorem dX1_block_18 : decode cX1_block 18 = .ok (.invokevirtual 173, 3) := dk_182 0 173 (dk_at dksX1_block_0 18 rfl rfl)
theorem dX1_block_21 : decode cX1_block 21 = .ok (.ishl, 1) := dk_120 (dk_at dksX1_block_0 21 rfl rfl)
theorem dX1_block_22 : decode cX1_block 22 = .ok (.iconst 1, 1) := dk_4 (dk_at dksX1_block_0 22 rfl rfl)
theorem dX1_block_23 : decode cX1_block 23 = .ok (.isub, 1) := dk_100 (dk_at dksX1_block_0 23 rfl rfl)
theorem dX1_block_24 : decode cX1_block 24 = .ok (.istore_n 3, 1) := dk_62 (dk_at dksX1_block_1 0 rfl rfl)
theorem dX1_block_25 : decode cX1_block 25 = .ok (.iload_n 3, 1) := dk_29 (dk_at dksX1_block_1 1 rfl rfl)
theorem dX1_block_26 : decode cX1_block 26 = .ok (.istore 4, 2) := dk_54 4 (dk_at dksX1_block_1 2 rfl rfl)
theorem dX1_block_28 : decode cX1_block 28 = .ok (.iload 4, 2) := dk_21 4 (dk_at dksX1_block_1 4 rfl rfl)
theorem dX1_block_30 : decode cX1_block 30 = .ok (.ifCond .le 45, 3) := dk_158 0 45 (dk_at dksX1_block_1 6 rfl rfl)
theorem dX1_block_33 : decode cX1_block 33 = .ok (.iload 4, 2) := dk_21 4 (dk_at dksX1_block_1 9 rfl rfl)
theorem dX1_block_35 : decode cX1_block 35 = .ok (.iload_n 1, 1) := dk_27 (dk_at dksX1_block_1 11 rfl rfl)
theorem dX1_block_36 : decode cX1_block 36 = .ok (.invokestatic 62, 3) := dk_184 0 62 (dk_at dksX1_block_1 12 rfl rfl)
theorem dX1_block_39 : decode cX1_block 39 = .ok (.ifCond .eq 30, 3) := dk_153 0 30 (dk_at dksX1_block_1 15 rfl rfl)
theorem dX1_block_42 : decode cX1_block 42 = .ok (.aload_n 2, 1) := dk_44 (dk_at dksX1_block_1 18 rfl rfl)
theorem dX1_block_43 : decode cX1_block 43 = .ok (.iload 4, 2) := dk_21 4 (dk_at dksX1_block_1 19 rfl rfl)
theorem dX1_block_45 : decode cX1_block 45 = .ok (.invokestatic 354, 3) := dk_184 1 98 (dk_at dksX1_block_1 21 rfl rfl)
theorem dX1_block_48 : decode cX1_block 48 = .ok (.ifCond .eq 6, 3) := dk_153 0 6 (dk_at dksX1_block_2 0 rfl rfl)
theorem dX1_block_51 : decode cX1_block 51 = .ok (.goto 18, 3) := dk_167 0 18 (dk_at dksX1_block_2 3 rfl rfl)
theorem dX1_block_54 : decode cX1_block 54 = .ok (.iload 4, 2) := dk_21 4 (dk_at dksX1_block_2 6 rfl rfl)
theorem dX1_block_56 : decode cX1_block 56 = .ok (.invokestatic 70, 3) := dk_184 0 70 (dk_at dksX1_block_2 8 rfl rfl)
theorem dX1_block_59 : decode cX1_block 59 = .ok (.iload_n 3, 1) := dk_29 (dk_at dksX1_block_2 11 rfl rfl)
theorem dX1_block_60 : decode cX1_block 60 = .ok (.invokestatic 70, 3) := dk_184 0 70 (dk_at dksX1_block_2 12 rfl rfl)
theorem dX1_block_63 : decode cX1_block 63 = .ok (.if_icmp .gt 6, 3) := dk_163 0 6 (dk_at dksX1_block_2 15 rfl rfl)
theorem dX1_block_66 : decode cX1_block 66 = .ok (.iload 4, 2) := dk_21 4 (dk_at dksX1_block_2 18 rfl rfl)
theorem dX1_block_68 : decode cX1_block 68 = .ok (.istore_n 3, 1) := dk_62 (dk_at dksX1_block_2 20 rfl rfl)
theorem dX1_block_69 : decode cX1_block 69 = .ok (.iinc 4 (-1), 3) := dk_132 4 255 (dk_at dksX1_block_2 21 rfl rfl)
theorem dX1_block_72 : decode cX1_block 72 = .ok (.goto (-44), 3) := dk_167 255 212 (dk_at dksX1_block_3 0 rfl rfl)
theorem dX1_block_75 : decode cX1_block 75 = .ok (.iload_n 3, 1) := dk_29 (dk_at dksX1_block_3 3 rfl rfl)
theorem dX1_block_76 : decode cX1_block 76 = .ok (.ireturn, 1) := dk_172 (dk_at dksX1_block_3 4 rfl rfl)
abbrev cX1_shared : ByteArray := prog_1_method_62_code
def yX1_shared : MethodName := ⟨RX1, "shared", "(II)I"⟩
def dkwX1_shared_2 : List UInt8 := [184, 1, 98, 100, 172]
abbrev dktX1_shared_2 : List UInt8 := dkwX1_shared_2 ++ []
def dkwX1_shared_1 : List UInt8 := [180, 0, 95, 182, 1, 94, 78, 45, 27, 184, 1, 98, 45, 28, 184, 1, 98, 96, 45, 27, 28, 128]
abbrev dktX1_shared_1 : List UInt8 := dkwX1_shared_1 ++ dktX1_shared_2
def dkwX1_shared_0 : List UInt8 := [42, 27, 28, 182, 0, 221, 27, 28, 126, 154, 0, 7, 4, 167, 0, 4, 3, 184, 0, 200, 42, 180, 0, 12]
abbrev dktX1_shared_0 : List UInt8 := dkwX1_shared_0 ++ dktX1_shared_1
theorem dksX1_shared_0 : cX1_shared.data.toList.drop 0 = dktX1_shared_0 := by decide +kernel
theorem dksX1_shared_1 : cX1_shared.data.toList.drop 24 = dktX1_shared_1 := dk_seg dksX1_shared_0 24 rfl rfl
theorem dksX1_shared_2 : cX1_shared.data.toList.drop 46 = dktX1_shared_2 := dk_seg dksX1_shared_1 22 rfl rfl
theorem dX1_shared_0 : decode cX1_shared 0 = .ok (.aload_n 0, 1) := dk_42 (dk_at dksX1_shared_0 0 rfl rfl)
theorem dX1_shared_1 : decode cX1_shared 1 = .ok (.iload_n 1, 1) := dk_27 (dk_at dksX1_shared_0 1 rfl rfl)
theorem dX1_shared_2 : decode cX1_shared 2 = .ok (.iload_n 2, 1) := dk_28 (dk_at dksX1_shared_0 2 rfl rfl)
theorem dX1_shared_3 : decode cX1_shared 3 = .ok (.invokevirtual 221, 3) := dk_182 0 221 (dk_at dksX1_shared_0 3 rfl rfl)
theorem dX1_shared_6 : decode cX1_shared 6 = .ok (.iload_n 1, 1) := dk_27 (dk_at dksX1_shared_0 6 rfl rfl)
theorem dX1_shared_7 : decode cX1_shared 7 = .ok (.iload_n 2, 1) := dk_28 (dk_at dksX1_shared_0 7 rfl rfl)
theorem dX1_shared_8 : decode cX1_shared 8 = .ok (.iand, 1) := dk_126 (dk_at dksX1_shared_0 8 rfl rfl)
theorem dX1_shared_9 : decode cX1_shared 9 = .ok (.ifCond .ne 7, 3) := dk_154 0 7 (dk_at dksX1_shared_0 9 rfl rfl)
theorem dX1_shared_12 : decode cX1_shared 12 = .ok (.iconst 1, 1) := dk_4 (dk_at dksX1_shared_0 12 rfl rfl)
theorem dX1_shared_13 : decode cX1_shared 13 = .ok (.goto 4, 3) := dk_167 0 4 (dk_at dksX1_shared_0 13 rfl rfl)
theorem dX1_shared_16 : decode cX1_shared 16 = .ok (.iconst 0, 1) := dk_3 (dk_at dksX1_shared_0 16 rfl rfl)
theorem dX1_shared_17 : decode cX1_shared 17 = .ok (.invokestatic 200, 3) := dk_184 0 200 (dk_at dksX1_shared_0 17 rfl rfl)
theorem dX1_shared_20 : decode cX1_shared 20 = .ok (.aload_n 0, 1) := dk_42 (dk_at dksX1_shared_0 20 rfl rfl)
theorem dX1_shared_21 : decode cX1_shared 21 = .ok (.getfield 12, 3) := dk_180 0 12 (dk_at dksX1_shared_0 21 rfl rfl)
theorem dX1_shared_24 : decode cX1_shared 24 = .ok (.getfield 95, 3) := dk_180 0 95 (dk_at dksX1_shared_1 0 rfl rfl)
theorem dX1_shared_27 : decode cX1_shared 27 = .ok (.invokevirtual 350, 3) := dk_182 1 94 (dk_at dksX1_shared_1 3 rfl rfl)
theorem dX1_shared_30 : decode cX1_shared 30 = .ok (.astore_n 3, 1) := dk_78 (dk_at dksX1_shared_1 6 rfl rfl)
theorem dX1_shared_31 : decode cX1_shared 31 = .ok (.aload_n 3, 1) := dk_45 (dk_at dksX1_shared_1 7 rfl rfl)
theorem dX1_shared_32 : decode cX1_shared 32 = .ok (.iload_n 1, 1) := dk_27 (dk_at dksX1_shared_1 8 rfl rfl)
theorem dX1_shared_33 : decode cX1_shared 33 = .ok (.invokestatic 354, 3) := dk_184 1 98 (dk_at dksX1_shared_1 9 rfl rfl)
theorem dX1_shared_36 : decode cX1_shared 36 = .ok (.aload_n 3, 1) := dk_45 (dk_at dksX1_shared_1 12 rfl rfl)
theorem dX1_shared_37 : decode cX1_shared 37 = .ok (.iload_n 2, 1) := dk_28 (dk_at dksX1_shared_1 13 rfl rfl)
theorem dX1_shared_38 : decode cX1_shared 38 = .ok (.invokestatic 354, 3) := dk_184 1 98 (dk_at dksX1_shared_1 14 rfl rfl)
theorem dX1_shared_41 : decode cX1_shared 41 = .ok (.iadd, 1) := dk_96 (dk_at dksX1_shared_1 17 rfl rfl)
theorem dX1_shared_42 : decode cX1_shared 42 = .ok (.aload_n 3, 1) := dk_45 (dk_at dksX1_shared_1 18 rfl rfl)
theorem dX1_shared_43 : decode cX1_shared 43 = .ok (.iload_n 1, 1) := dk_27 (dk_at dksX1_shared_1 19 rfl rfl)
theorem dX1_shared_44 : decode cX1_shared 44 = .ok (.iload_n 2, 1) := dk_28 (dk_at dksX1_shared_1 20 rfl rfl)
theorem dX1_shared_45 : decode cX1_shared 45 = .ok (.ior, 1) := dk_128 (dk_at dksX1_shared_1 21 rfl rfl)
theorem dX1_shared_46 : decode cX1_shared 46 = .ok (.invokestatic 354, 3) := dk_184 1 98 (dk_at dksX1_shared_2 0 rfl rfl)
theorem dX1_shared_49 : decode cX1_shared 49 = .ok (.isub, 1) := dk_100 (dk_at dksX1_shared_2 3 rfl rfl)
theorem dX1_shared_50 : decode cX1_shared 50 = .ok (.ireturn, 1) := dk_172 (dk_at dksX1_shared_2 4 rfl rfl)
abbrev cX1_closestPair : ByteArray := prog_1_method_63_code
def yX1_closestPair : MethodName := ⟨RX1, "closestPair", "()I"⟩
def dkwX1_closestPair_5 : List UInt8 := [132, 4, 1, 167, 255, 169, 28, 172]
abbrev dktX1_closestPair_5 : List UInt8 := dkwX1_closestPair_5 ++ []
def dkwX1_closestPair_4 : List UInt8 := [163, 0, 6, 167, 0, 15, 16, 8, 21, 4, 104, 21, 5, 96, 61, 21, 6, 62, 132, 5, 1, 167, 255, 190]
abbrev dktX1_closestPair_4 : List UInt8 := dkwX1_closestPair_4 ++ dktX1_closestPair_5
def dkwX1_closestPair_3 : List UInt8 := [184, 1, 98, 96, 43, 4, 21, 4, 120, 4, 21, 5, 120, 128, 184, 1, 98, 100, 54, 6, 21, 6, 29]
abbrev dktX1_closestPair_3 : List UInt8 := dkwX1_closestPair_3 ++ dktX1_closestPair_4
def dkwX1_closestPair_2 : List UInt8 := [54, 5, 21, 5, 42, 182, 0, 173, 162, 0, 63, 43, 4, 21, 4, 120, 184, 1, 98, 43, 4, 21, 5, 120]
abbrev dktX1_closestPair_2 : List UInt8 := dkwX1_closestPair_2 ++ dktX1_closestPair_3
def dkwX1_closestPair_1 : List UInt8 := [182, 1, 94, 76, 2, 61, 2, 62, 3, 54, 4, 21, 4, 42, 182, 0, 173, 162, 0, 84, 21, 4, 4, 96]
abbrev dktX1_closestPair_1 : List UInt8 := dkwX1_closestPair_1 ++ dktX1_closestPair_2
def dkwX1_closestPair_0 : List UInt8 := [42, 182, 0, 173, 4, 164, 0, 7, 4, 167, 0, 4, 3, 184, 0, 233, 42, 180, 0, 12, 180, 0, 95]
abbrev dktX1_closestPair_0 : List UInt8 := dkwX1_closestPair_0 ++ dktX1_closestPair_1
theorem dksX1_closestPair_0 : cX1_closestPair.data.toList.drop 0 = dktX1_closestPair_0 := by decide +kernel
theorem dksX1_closestPair_1 : cX1_closestPair.data.toList.drop 23 = dktX1_closestPair_1 := dk_seg dksX1_closestPair_0 23 rfl rfl
theorem dksX1_closestPair_2 : cX1_closestPair.data.toList.drop 47 = dktX1_closestPair_2 := dk_seg dksX1_closestPair_1 24 rfl rfl
theorem dksX1_closestPair_3 : cX1_closestPair.data.toList.drop 71 = dktX1_closestPair_3 := dk_seg dksX1_closestPair_2 24 rfl rfl
theorem dksX1_closestPair_4 : cX1_closestPair.data.toList.drop 94 = dktX1_closestPair_4 := dk_seg dksX1_closestPair_3 23 rfl rfl
theorem dksX1_closestPair_5 : cX1_closestPair.data.toList.drop 118 = dktX1_closestPair_5 := dk_seg dksX1_closestPair_4 24 rfl rfl
theorem dX1_closestPair_0 : decode cX1_closestPair 0 = .ok (.aload_n 0, 1) := dk_42 (dk_at dksX1_closestPair_0 0 rfl rfl)
theorem dX1_closestPair_1 : decode cX1_closestPair 1 = .ok (.invokevirtual 173, 3) := dk_182 0 173 (dk_at dksX1_closestPair_0 1 rfl rfl)
theorem dX1_closestPair_4 : decode cX1_closestPair 4 = .ok (.iconst 1, 1) := dk_4 (dk_at dksX1_closestPair_0 4 rfl rfl)
theorem dX1_closestPair_5 : decode cX1_closestPair 5 = .ok (.if_icmp .le 7, 3) := dk_164 0 7 (dk_at dksX1_closestPair_0 5 rfl rfl)
theorem dX1_closestPair_8 : decode cX1_closestPair 8 = .ok (.iconst 1, 1) := dk_4 (dk_at dksX1_closestPair_0 8 rfl rfl)
theorem dX1_closestPair_9 : decode cX1_closestPair 9 = .ok (.goto 4, 3) := dk_167 0 4 (dk_at dksX1_closestPair_0 9 rfl rfl)
theorem dX1_closestPair_12 : decode cX1_closestPair 12 = .ok (.iconst 0, 1) := dk_3 (dk_at dksX1_closestPair_0 12 rfl rfl)
theorem dX1_closestPair_13 : decode cX1_closestPair 13 = .ok (.invokestatic 233, 3) := dk_184 0 233 (dk_at dksX1_closestPair_0 13 rfl rfl)
theorem dX1_closestPair_16 : decode cX1_closestPair 16 = .ok (.aload_n 0, 1) := dk_42 (dk_at dksX1_closestPair_0 16 rfl rfl)
theorem dX1_closestPair_17 : decode cX1_closestPair 17 = .ok (.getfield 12, 3) := dk_180 0 12 (dk_at dksX1_closestPair_0 17 rfl rfl)
theorem dX1_closestPair_20 : decode cX1_closestPair 20 = .ok (.getfield 95, 3) := dk_180 0 95 (dk_at dksX1_closestPair_0 20 rfl rfl)
theorem dX1_closestPair_23 : decode cX1_closestPair 23 = .ok (.invokevirtual 350, 3) := dk_182 1 94 (dk_at dksX1_closestPair_1 0 rfl rfl)
theorem dX1_closestPair_26 : decode cX1_closestPair 26 = .ok (.astore_n 1, 1) := dk_76 (dk_at dksX1_closestPair_1 3 rfl rfl)
theorem dX1_closestPair_27 : decode cX1_closestPair 27 = .ok (.iconst (-1), 1) := dk_2 (dk_at dksX1_closestPair_1 4 rfl rfl)
theorem dX1_closestPair_28 : decode cX1_closestPair 28 = .ok (.istore_n 2, 1) := dk_61 (dk_at dksX1_closestPair_1 5 rfl rfl)
theorem dX1_closestPair_29 : decode cX1_closestPair 29 = .ok (.iconst (-1), 1) := dk_2 (dk_at dksX1_closestPair_1 6 rfl rfl)
theorem dX1_closestPair_30 : decode cX1_closestPair 30 = .ok (.istore_n 3, 1) := dk_62 (dk_at dksX1_closestPair_1 7 rfl rfl)
theorem dX1_closestPair_31 : decode cX1_closestPair 31 = .ok (.iconst 0, 1) := dk_3 (dk_at dksX1_closestPair_1 8 rfl rfl)
theorem dX1_closestPair_32 : decode cX1_closestPair 32 = .ok (.istore 4, 2) := dk_54 4 (dk_at dksX1_closestPair_1 9 rfl rfl)
theorem dX1_closestPair_34 : decode cX1_closestPair 34 = .ok (.iload 4, 2) := dk_21 4 (dk_at dksX1_closestPair_1 11 rfl rfl)
theorem dX1_closestPair_36 : decode cX1_closestPair 36 = .ok (.aload_n 0, 1) := dk_42 (dk_at dksX1_closestPair_1 13 rfl rfl)
theorem dX1_closestPair_37 : decode cX1_closestPair 37 = .ok (.invokevirtual 173, 3) := dk_182 0 173 (dk_at dksX1_closestPair_1 14 rfl rfl)
theorem dX1_closestPair_40 : decode cX1_closestPair 40 = .ok (.if_icmp .ge 84, 3) := dk_162 0 84 (dk_at dksX1_closestPair_1 17 rfl rfl)
theorem dX1_closestPair_43 : decode cX1_closestPair 43 = .ok (.iload 4, 2) := dk_21 4 (dk_at dksX1_closestPair_1 20 rfl rfl)
theorem dX1_closestPair_45 : decode cX1_closestPair 45 = .ok (.iconst 1, 1) := dk_4 (dk_at dksX1_closestPair_1 22 rfl rfl)
theorem dX1_closestPair_46 : decode cX1_closestPair 46 = .ok (.iadd, 1) := dk_96 (dk_at dksX1_closestPair_1 23 rfl rfl)
theorem dX1_closestPair_47 : decode cX1_closestPair 47 = .ok (.istore 5, 2) := dk_54 5 (dk_at dksX1_closestPair_2 0 rfl rfl)
theorem dX1_closestPair_49 : decode cX1_closestPair 49 = .ok (.iload 5, 2) := dk_21 5 (dk_at dksX1_closestPair_2 2 rfl rfl)
theorem dX1_closestPair_51 : decode cX1_closestPair 51 = .ok (.aload_n 0, 1) := dk_42 (dk_at dksX1_closestPair_2 4 rfl rfl)
theorem dX1_closestPair_52 : decode cX1_closestPair 52 = .ok (.invokevirtual 173, 3) := dk_182 0 173 (dk_at dksX1_closestPair_2 5 rfl rfl)
theorem dX1_closestPair_55 : decode cX1_closestPair 55 = .ok (.if_icmp .ge 63, 3) := dk_162 0 63 (dk_at dksX1_closestPair_2 8 rfl rfl)
theorem dX1_closestPair_58 : decode cX1_closestPair 58 = .ok (.aload_n 1, 1) := dk_43 (dk_at dksX1_closestPair_2 11 rfl rfl)
theorem dX1_closestPair_59 : decode cX1_closestPair 59 = .ok (.iconst 1, 1) := dk_4 (dk_at dksX1_closestPair_2 12 rfl rfl)
theorem dX1_closestPair_60 : decode cX1_closestPair 60 = .ok (.iload 4, 2) := dk_21 4 (dk_at dksX1_closestPair_2 13 rfl rfl)
theorem dX1_closestPair_62 : decode cX1_closestPair 62 = .ok (.ishl, 1) := dk_120 (dk_at dksX1_closestPair_2 15 rfl rfl)
theorem dX1_closestPair_63 : decode cX1_closestPair 63 = .ok (.invokestatic 354, 3) := dk_184 1 98 (dk_at dksX1_closestPair_2 16 rfl rfl)
theorem dX1_closestPair_66 : decode cX1_closestPair 66 = .ok (.aload_n 1, 1) := dk_43 (dk_at dksX1_closestPair_2 19 rfl rfl)
theorem dX1_closestPair_67 : decode cX1_closestPair 67 = .ok (.iconst 1, 1) := dk_4 (dk_at dksX1_closestPair_2 20 rfl rfl)
theorem dX1_closestPair_68 : decode cX1_closestPair 68 = .ok (.iload 5, 2) := dk_21 5 (dk_at dksX1_closestPair_2 21 rfl rfl)
theorem dX1_closestPair_70 : decode cX1_closestPair 70 = .ok (.ishl, 1) := dk_120 (dk_at dksX1_closestPair_2 23 rfl rfl)
theorem dX1_closestPair_71 : decode cX1_closestPair 71 = .ok (.invokestatic 354, 3) := dk_184 1 98 (dk_at dksX1_closestPair_3 0 rfl rfl)
theorem dX1_closestPair_74 : decode cX1_closestPair 74 = .ok (.iadd, 1) := dk_96 (dk_at dksX1_closestPair_3 3 rfl rfl)
theorem dX1_closestPair_75 : decode cX1_closestPair 75 = .ok (.aload_n 1, 1) := dk_43 (dk_at dksX1_closestPair_3 4 rfl rfl)
theorem dX1_closestPair_76 : decode cX1_closestPair 76 = .ok (.iconst 1, 1) := dk_4 (dk_at dksX1_closestPair_3 5 rfl rfl)
theorem dX1_closestPair_77 : decode cX1_closestPair 77 = .ok (.iload 4, 2) := dk_21 4 (dk_at dksX1_closestPair_3 6 rfl rfl)
theorem dX1_closestPair_79 : decode cX1_closestPair 79 = .ok (.ishl, 1) := dk_120 (dk_at dksX1_closestPair_3 8 rfl rfl)
theorem dX1_closestPair_80 : decode cX1_closestPair 80 = .ok (.iconst 1, 1) := dk_4 (dk_at dksX1_closestPair_3 9 rfl rfl)
theorem dX1_closestPair_81 : decode cX1_closestPair 81 = .ok (.iload 5, 2) := dk_21 5 (dk_at dksX1_closestPair_3 10 rfl rfl)
theorem dX1_closestPair_83 : decode cX1_closestPair 83 = .ok (.ishl, 1) := dk_120 (dk_at dksX1_closestPair_3 12 rfl rfl)
theorem dX1_closestPair_84 : decode cX1_closestPair 84 = .ok (.ior, 1) := dk_128 (dk_at dksX1_closestPair_3 13 rfl rfl)
theorem dX1_closestPair_85 : decode cX1_closestPair 85 = .ok (.invokestatic 354, 3) := dk_184 1 98 (dk_at dksX1_closestPair_3 14 rfl rfl)
theorem dX1_closestPair_88 : decode cX1_closestPair 88 = .ok (.isub, 1) := dk_100 (dk_at dksX1_closestPair_3 17 rfl rfl)
theorem dX1_closestPair_89 : decode cX1_closestPair 89 = .ok (.istore 6, 2) := dk_54 6 (dk_at dksX1_closestPair_3 18 rfl rfl)
theorem dX1_closestPair_91 : decode cX1_closestPair 91 = .ok (.iload 6, 2) := dk_21 6 (dk_at dksX1_closestPair_3 20 rfl rfl)
theorem dX1_closestPair_93 : decode cX1_closestPair 93 = .ok (.iload_n 3, 1) := dk_29 (dk_at dksX1_closestPair_3 22 rfl rfl)
theorem dX1_closestPair_94 : decode cX1_closestPair 94 = .ok (.if_icmp .gt 6, 3) := dk_163 0 6 (dk_at dksX1_closestPair_4 0 rfl rfl)
theorem dX1_closestPair_97 : decode cX1_closestPair 97 = .ok (.goto 15, 3) := dk_167 0 15 (dk_at dksX1_closestPair_4 3 rfl rfl)
theorem dX1_closestPair_100 : decode cX1_closestPair 100 = .ok (.bipush 8, 2) := dk_16 8 (dk_at dksX1_closestPair_4 6 rfl rfl)
theorem dX1_closestPair_102 : decode cX1_closestPair 102 = .ok (.iload 4, 2) := dk_21 4 (dk_at dksX1_closestPair_4 8 rfl rfl)
theorem dX1_closestPair_104 : decode cX1_closestPair 104 = .ok (.imul, 1) := dk_104 (dk_at dksX1_closestPair_4 10 rfl rfl)
theorem dX1_closestPair_105 : decode cX1_closestPair 105 = .ok (.iload 5, 2) := dk_21 5 (dk_at dksX1_closestPair_4 11 rfl rfl)
theorem dX1_closestPair_107 : decode cX1_closestPair 107 = .ok (.iadd, 1) := dk_96 (dk_at dksX1_closestPair_4 13 rfl rfl)
theorem dX1_closestPair_108 : decode cX1_closestPair 108 = .ok (.istore_n 2, 1) := dk_61 (dk_at dksX1_closestPair_4 14 rfl rfl)
theorem dX1_closestPair_109 : decode cX1_closestPair 109 = .ok (.iload 6, 2) := dk_21 6 (dk_at dksX1_closestPair_4 15 rfl rfl)
theorem dX1_closestPair_111 : decode cX1_closestPair 111 = .ok (.istore_n 3, 1) := dk_62 (dk_at dksX1_closestPair_4 17 rfl rfl)
theorem dX1_closestPair_112 : decode cX1_closestPair 112 = .ok (.iinc 5 1, 3) := dk_132 5 1 (dk_at dksX1_closestPair_4 18 rfl rfl)
theorem dX1_closestPair_115 : decode cX1_closestPair 115 = .ok (.goto (-66), 3) := dk_167 255 190 (dk_at dksX1_closestPair_4 21 rfl rfl)
theorem dX1_closestPair_118 : decode cX1_closestPair 118 = .ok (.iinc 4 1, 3) := dk_132 4 1 (dk_at dksX1_closestPair_5 0 rfl rfl)
theorem dX1_closestPair_121 : decode cX1_closestPair 121 = .ok (.goto (-87), 3) := dk_167 255 169 (dk_at dksX1_closestPair_5 3 rfl rfl)
theorem dX1_closestPair_124 : decode cX1_closestPair 124 = .ok (.iload_n 2, 1) := dk_28 (dk_at dksX1_closestPair_5 6 rfl rfl)
theorem dX1_closestPair_125 : decode cX1_closestPair 125 = .ok (.ireturn, 1) := dk_172 (dk_at dksX1_closestPair_5 7 rfl rfl)
abbrev cX1_mostEntangled : ByteArray := prog_1_method_64_code
def yX1_mostEntangled : MethodName := ⟨RX1, "mostEntangled", "(I)I"⟩
def dkwX1_mostEntangled_3 : List UInt8 := [21, 5, 62, 21, 6, 54, 4, 132, 5, 1, 167, 255, 205, 29, 172]
abbrev dktX1_mostEntangled_3 : List UInt8 := dkwX1_mostEntangled_3 ++ []
def dkwX1_mostEntangled_2 : List UInt8 := [159, 0, 6, 167, 0, 28, 44, 21, 5, 184, 1, 98, 54, 6, 21, 6, 21, 4, 163, 0, 6, 167, 0, 10]
abbrev dktX1_mostEntangled_2 : List UInt8 := dkwX1_mostEntangled_2 ++ dktX1_mostEntangled_3
def dkwX1_mostEntangled_1 : List UInt8 := [62, 2, 54, 4, 4, 54, 5, 21, 5, 4, 42, 182, 0, 173, 120, 162, 0, 46, 21, 5, 184, 0, 70, 27]
abbrev dktX1_mostEntangled_1 : List UInt8 := dkwX1_mostEntangled_1 ++ dktX1_mostEntangled_2
def dkwX1_mostEntangled_0 : List UInt8 := [27, 4, 42, 182, 0, 173, 184, 0, 88, 184, 0, 200, 42, 180, 0, 12, 180, 0, 95, 182, 1, 94, 77, 2]
abbrev dktX1_mostEntangled_0 : List UInt8 := dkwX1_mostEntangled_0 ++ dktX1_mostEntangled_1
theorem dksX1_mostEntangled_0 : cX1_mostEntangled.data.toList.drop 0 = dktX1_mostEntangled_0 := by decide +kernel
theorem dksX1_mostEntangled_1 : cX1_mostEntangled.data.toList.drop 24 = dktX1_mostEntangled_1 := dk_seg dksX1_mostEntangled_0 24 rfl rfl
theorem dksX1_mostEntangled_2 : cX1_mostEntangled.data.toList.drop 48 = dktX1_mostEntangled_2 := dk_seg dksX1_mostEntangled_1 24 rfl rfl
theorem dksX1_mostEntangled_3 : cX1_mostEntangled.data.toList.drop 72 = dktX1_mostEntangled_3 := dk_seg dksX1_mostEntangled_2 24 rfl rfl
theorem dX1_mostEntangled_0 : decode cX1_mostEntangled 0 = .ok (.iload_n 1, 1) := dk_27 (dk_at dksX1_mostEntangled_0 0 rfl rfl)
theorem dX1_mostEntangled_1 : decode cX1_mostEntangled 1 = .ok (.iconst 1, 1) := dk_4 (dk_at dksX1_mostEntangled_0 1 rfl rfl)
theorem dX1_mostEntangled_2 : decode cX1_mostEntangled 2 = .ok (.aload_n 0, 1) := dk_42 (dk_at dksX1_mostEntangled_0 2 rfl rfl)
theorem dX1_mostEntangled_3 : decode cX1_mostEntangled 3 = .ok (.invokevirtual 173, 3) := dk_182 0 173 (dk_at dksX1_mostEntangled_0 3 rfl rfl)
theorem dX1_mostEntangled_6 : decode cX1_mostEntangled 6 = .ok (.invokestatic 88, 3) := dk_184 0 88 (dk_at dksX1_mostEntangled_0 6 rfl rfl)
theorem dX1_mostEntangled_9 : decode cX1_mostEntangled 9 = .ok (.invokestatic 200, 3) := dk_184 0 200 (dk_at dksX1_mostEntangled_0 9 rfl rfl)
theorem dX1_mostEntangled_12 : decode cX1_mostEntangled 12 = .ok (.aload_n 0, 1) := dk_42 (dk_at dksX1_mostEntangled_0 12 rfl rfl)
theorem dX1_mostEntangled_13 : decode cX1_mostEntangled 13 = .ok (.getfield 12, 3) := dk_180 0 12 (dk_at dksX1_mostEntangled_0 13 rfl rfl)
theorem dX1_mostEntangled_16 : decode cX1_mostEntangled 16 = .ok (.getfield 95, 3) := dk_180 0 95 (dk_at dksX1_mostEntangled_0 16 rfl rfl)
theorem dX1_mostEntangled_19 : decode cX1_mostEntangled 19 = .ok (.invokevirtual 350, 3) := dk_182 1 94 (dk_at dksX1_mostEntangled_0 19 rfl rfl)
theorem dX1_mostEntangled_22 : decode cX1_mostEntangled 22 = .ok (.astore_n 2, 1) := dk_77 (dk_at dksX1_mostEntangled_0 22 rfl rfl)
theorem dX1_mostEntangled_23 : decode cX1_mostEntangled 23 = .ok (.iconst (-1), 1) := dk_2 (dk_at dksX1_mostEntangled_0 23 rfl rfl)
theorem dX1_mostEntangled_24 : decode cX1_mostEntangled 24 = .ok (.istore_n 3, 1) := dk_62 (dk_at dksX1_mostEntangled_1 0 rfl rfl)
theorem dX1_mostEntangled_25 : decode cX1_mostEntangled 25 = .ok (.iconst (-1), 1) := dk_2 (dk_at dksX1_mostEntangled_1 1 rfl rfl)
theorem dX1_mostEntangled_26 : decode cX1_mostEntangled 26 = .ok (.istore 4, 2) := dk_54 4 (dk_at dksX1_mostEntangled_1 2 rfl rfl)
theorem dX1_mostEntangled_28 : decode cX1_mostEntangled 28 = .ok (.iconst 1, 1) := dk_4 (dk_at dksX1_mostEntangled_1 4 rfl rfl)
theorem dX1_mostEntangled_29 : decode cX1_mostEntangled 29 = .ok (.istore 5, 2) := dk_54 5 (dk_at dksX1_mostEntangled_1 5 rfl rfl)
theorem dX1_mostEntangled_31 : decode cX1_mostEntangled 31 = .ok (.iload 5, 2) := dk_21 5 (dk_at dksX1_mostEntangled_1 7 rfl rfl)
theorem dX1_mostEntangled_33 : decode cX1_mostEntangled 33 = .ok (.iconst 1, 1) := dk_4 (dk_at dksX1_mostEntangled_1 9 rfl rfl)
theorem dX1_mostEntangled_34 : decode cX1_mostEntangled 34 = .ok (.aload_n 0, 1) := dk_42 (dk_at dksX1_mostEntangled_1 10 rfl rfl)
theorem dX1_mostEntangled_35 : decode cX1_mostEntangled 35 = .ok (.invokevirtual 173, 3) := dk_182 0 173 (dk_at dksX1_mostEntangled_1 11 rfl rfl)
theorem dX1_mostEntangled_38 : decode cX1_mostEntangled 38 = .ok (.ishl, 1) := dk_120 (dk_at dksX1_mostEntangled_1 14 rfl rfl)
theorem dX1_mostEntangled_39 : decode cX1_mostEntangled 39 = .ok (.if_icmp .ge 46, 3) := dk_162 0 46 (dk_at dksX1_mostEntangled_1 15 rfl rfl)
theorem dX1_mostEntangled_42 : decode cX1_mostEntangled 42 = .ok (.iload 5, 2) := dk_21 5 (dk_at dksX1_mostEntangled_1 18 rfl rfl)
theorem dX1_mostEntangled_44 : decode cX1_mostEntangled 44 = .ok (.invokestatic 70, 3) := dk_184 0 70 (dk_at dksX1_mostEntangled_1 20 rfl rfl)
theorem dX1_mostEntangled_47 : decode cX1_mostEntangled 47 = .ok (.iload_n 1, 1) := dk_27 (dk_at dksX1_mostEntangled_1 23 rfl rfl)
theorem dX1_mostEntangled_48 : decode cX1_mostEntangled 48 = .ok (.if_icmp .eq 6, 3) := dk_159 0 6 (dk_at dksX1_mostEntangled_2 0 rfl rfl)
theorem dX1_mostEntangled_51 : decode cX1_mostEntangled 51 = .ok (.goto 28, 3) := dk_167 0 28 (dk_at dksX1_mostEntangled_2 3 rfl rfl)
theorem dX1_mostEntangled_54 : decode cX1_mostEntangled 54 = .ok (.aload_n 2, 1) := dk_44 (dk_at dksX1_mostEntangled_2 6 rfl rfl)
theorem dX1_mostEntangled_55 : decode cX1_mostEntangled 55 = .ok (.iload 5, 2) := dk_21 5 (dk_at dksX1_mostEntangled_2 7 rfl rfl)
theorem dX1_mostEntangled_57 : decode cX1_mostEntangled 57 = .ok (.invokestatic 354, 3) := dk_184 1 98 (dk_at dksX1_mostEntangled_2 9 rfl rfl)
theorem dX1_mostEntangled_60 : decode cX1_mostEntangled 60 = .ok (.istore 6, 2) := dk_54 6 (dk_at dksX1_mostEntangled_2 12 rfl rfl)
theorem dX1_mostEntangled_62 : decode cX1_mostEntangled 62 = .ok (.iload 6, 2) := dk_21 6 (dk_at dksX1_mostEntangled_2 14 rfl rfl)
theorem dX1_mostEntangled_64 : decode cX1_mostEntangled 64 = .ok (.iload 4, 2) := dk_21 4 (dk_at dksX1_mostEntangled_2 16 rfl rfl)
theorem dX1_mostEntangled_66 : decode cX1_mostEntangled 66 = .ok (.if_icmp .gt 6, 3) := dk_163 0 6 (dk_at dksX1_mostEntangled_2 18 rfl rfl)
theorem dX1_mostEntangled_69 : decode cX1_mostEntangled 69 = .ok (.goto 10, 3) := dk_167 0 10 (dk_at dksX1_mostEntangled_2 21 rfl rfl)
theorem dX1_mostEntangled_72 : decode cX1_mostEntangled 72 = .ok (.iload 5, 2) := dk_21 5 (dk_at dksX1_mostEntangled_3 0 rfl rfl)
theorem dX1_mostEntangled_74 : decode cX1_mostEntangled 74 = .ok (.istore_n 3, 1) := dk_62 (dk_at dksX1_mostEntangled_3 2 rfl rfl)
theorem dX1_mostEntangled_75 : decode cX1_mostEntangled 75 = .ok (.iload 6, 2) := dk_21 6 (dk_at dksX1_mostEntangled_3 3 rfl rfl)
theorem dX1_mostEntangled_77 : decode cX1_mostEntangled 77 = .ok (.istore 4, 2) := dk_54 4 (dk_at dksX1_mostEntangled_3 5 rfl rfl)
theorem dX1_mostEntangled_79 : decode cX1_mostEntangled 79 = .ok (.iinc 5 1, 3) := dk_132 5 1 (dk_at dksX1_mostEntangled_3 7 rfl rfl)
theorem dX1_mostEntangled_82 : decode cX1_mostEntangled 82 = .ok (.goto (-51), 3) := dk_167 255 205 (dk_at dksX1_mostEntangled_3 10 rfl rfl)
theorem dX1_mostEntangled_85 : decode cX1_mostEntangled 85 = .ok (.iload_n 3, 1) := dk_29 (dk_at dksX1_mostEntangled_3 13 rfl rfl)
theorem dX1_mostEntangled_86 : decode cX1_mostEntangled 86 = .ok (.ireturn, 1) := dk_172 (dk_at dksX1_mostEntangled_3 14 rfl rfl)
abbrev cX1_probability : ByteArray := prog_1_method_67_code
def yX1_probability : MethodName := ⟨RX1, "probability", "(I)D"⟩
def dkwX1_probability_1 : List UInt8 := [4, 42, 182, 1, 109, 120, 135, 111, 167, 0, 4, 14, 175]
abbrev dktX1_probability_1 : List UInt8 := dkwX1_probability_1 ++ []
def dkwX1_probability_0 : List UInt8 := [42, 27, 3, 182, 0, 221, 42, 180, 0, 12, 180, 0, 95, 182, 1, 8, 27, 184, 1, 105, 153, 0, 15, 15]
abbrev dktX1_probability_0 : List UInt8 := dkwX1_probability_0 ++ dktX1_probability_1
theorem dksX1_probability_0 : cX1_probability.data.toList.drop 0 = dktX1_probability_0 := by decide +kernel
theorem dksX1_probability_1 : cX1_probability.data.toList.drop 24 = dktX1_probability_1 := dk_seg dksX1_probability_0 24 rfl rfl
theorem dX1_probability_0 : decode cX1_probability 0 = .ok (.aload_n 0, 1) := dk_42 (dk_at dksX1_probability_0 0 rfl rfl)
theorem dX1_probability_1 : decode cX1_probability 1 = .ok (.iload_n 1, 1) := dk_27 (dk_at dksX1_probability_0 1 rfl rfl)
theorem dX1_probability_2 : decode cX1_probability 2 = .ok (.iconst 0, 1) := dk_3 (dk_at dksX1_probability_0 2 rfl rfl)
theorem dX1_probability_3 : decode cX1_probability 3 = .ok (.invokevirtual 221, 3) := dk_182 0 221 (dk_at dksX1_probability_0 3 rfl rfl)
theorem dX1_probability_6 : decode cX1_probability 6 = .ok (.aload_n 0, 1) := dk_42 (dk_at dksX1_probability_0 6 rfl rfl)
theorem dX1_probability_7 : decode cX1_probability 7 = .ok (.getfield 12, 3) := dk_180 0 12 (dk_at dksX1_probability_0 7 rfl rfl)
theorem dX1_probability_10 : decode cX1_probability 10 = .ok (.getfield 95, 3) := dk_180 0 95 (dk_at dksX1_probability_0 10 rfl rfl)
theorem dX1_probability_13 : decode cX1_probability 13 = .ok (.invokevirtual 264, 3) := dk_182 1 8 (dk_at dksX1_probability_0 13 rfl rfl)
theorem dX1_probability_16 : decode cX1_probability 16 = .ok (.iload_n 1, 1) := dk_27 (dk_at dksX1_probability_0 16 rfl rfl)
theorem dX1_probability_17 : decode cX1_probability 17 = .ok (.invokestatic 361, 3) := dk_184 1 105 (dk_at dksX1_probability_0 17 rfl rfl)
theorem dX1_probability_20 : decode cX1_probability 20 = .ok (.ifCond .eq 15, 3) := dk_153 0 15 (dk_at dksX1_probability_0 20 rfl rfl)
theorem dX1_probability_23 : decode cX1_probability 23 = .ok (.dconst 1, 1) := dk_15 (dk_at dksX1_probability_0 23 rfl rfl)
theorem dX1_probability_24 : decode cX1_probability 24 = .ok (.iconst 1, 1) := dk_4 (dk_at dksX1_probability_1 0 rfl rfl)
theorem dX1_probability_25 : decode cX1_probability 25 = .ok (.aload_n 0, 1) := dk_42 (dk_at dksX1_probability_1 1 rfl rfl)
theorem dX1_probability_26 : decode cX1_probability 26 = .ok (.invokevirtual 365, 3) := dk_182 1 109 (dk_at dksX1_probability_1 2 rfl rfl)
theorem dX1_probability_29 : decode cX1_probability 29 = .ok (.ishl, 1) := dk_120 (dk_at dksX1_probability_1 5 rfl rfl)
theorem dX1_probability_30 : decode cX1_probability 30 = .ok (.i2d, 1) := dk_135 (dk_at dksX1_probability_1 6 rfl rfl)
theorem dX1_probability_31 : decode cX1_probability 31 = .ok (.ddiv, 1) := dk_111 (dk_at dksX1_probability_1 7 rfl rfl)
theorem dX1_probability_32 : decode cX1_probability 32 = .ok (.goto 4, 3) := dk_167 0 4 (dk_at dksX1_probability_1 8 rfl rfl)
theorem dX1_probability_35 : decode cX1_probability 35 = .ok (.dconst 0, 1) := dk_14 (dk_at dksX1_probability_1 11 rfl rfl)
theorem dX1_probability_36 : decode cX1_probability 36 = .ok (.dreturn, 1) := dk_175 (dk_at dksX1_probability_1 12 rfl rfl)
abbrev cX1_keep : ByteArray := prog_1_method_70_code
def yX1_keep : MethodName := ⟨RX1, "keep", "(I)Z"⟩
def dkwX1_keep_1 : List UInt8 := [42, 180, 0, 34, 27, 42, 180, 0, 12, 180, 0, 95, 182, 1, 19, 83, 28, 172]
abbrev dktX1_keep_1 : List UInt8 := dkwX1_keep_1 ++ []
def dkwX1_keep_0 : List UInt8 := [27, 3, 4, 184, 0, 88, 184, 0, 188, 42, 180, 0, 34, 27, 50, 198, 0, 7, 4, 167, 0, 4, 3, 61]
abbrev dktX1_keep_0 : List UInt8 := dkwX1_keep_0 ++ dktX1_keep_1
theorem dksX1_keep_0 : cX1_keep.data.toList.drop 0 = dktX1_keep_0 := by decide +kernel
theorem dksX1_keep_1 : cX1_keep.data.toList.drop 24 = dktX1_keep_1 := dk_seg dksX1_keep_0 24 rfl rfl
theorem dX1_keep_0 : decode cX1_keep 0 = .ok (.iload_n 1, 1) := dk_27 (dk_at dksX1_keep_0 0 rfl rfl)
theorem dX1_keep_1 : decode cX1_keep 1 = .ok (.iconst 0, 1) := dk_3 (dk_at dksX1_keep_0 1 rfl rfl)
theorem dX1_keep_2 : decode cX1_keep 2 = .ok (.iconst 1, 1) := dk_4 (dk_at dksX1_keep_0 2 rfl rfl)
theorem dX1_keep_3 : decode cX1_keep 3 = .ok (.invokestatic 88, 3) := dk_184 0 88 (dk_at dksX1_keep_0 3 rfl rfl)
theorem dX1_keep_6 : decode cX1_keep 6 = .ok (.invokestatic 188, 3) := dk_184 0 188 (dk_at dksX1_keep_0 6 rfl rfl)
theorem dX1_keep_9 : decode cX1_keep 9 = .ok (.aload_n 0, 1) := dk_42 (dk_at dksX1_keep_0 9 rfl rfl)
theorem dX1_keep_10 : decode cX1_keep 10 = .ok (.getfield 34, 3) := dk_180 0 34 (dk_at dksX1_keep_0 10 rfl rfl)
theorem dX1_keep_13 : decode cX1_keep 13 = .ok (.iload_n 1, 1) := dk_27 (dk_at dksX1_keep_0 13 rfl rfl)
theorem dX1_keep_14 : decode cX1_keep 14 = .ok (.aaload, 1) := dk_50 (dk_at dksX1_keep_0 14 rfl rfl)
theorem dX1_keep_15 : decode cX1_keep 15 = .ok (.ifnull 7, 3) := dk_198 0 7 (dk_at dksX1_keep_0 15 rfl rfl)
theorem dX1_keep_18 : decode cX1_keep 18 = .ok (.iconst 1, 1) := dk_4 (dk_at dksX1_keep_0 18 rfl rfl)
theorem dX1_keep_19 : decode cX1_keep 19 = .ok (.goto 4, 3) := dk_167 0 4 (dk_at dksX1_keep_0 19 rfl rfl)
theorem dX1_keep_22 : decode cX1_keep 22 = .ok (.iconst 0, 1) := dk_3 (dk_at dksX1_keep_0 22 rfl rfl)
theorem dX1_keep_23 : decode cX1_keep 23 = .ok (.istore_n 2, 1) := dk_61 (dk_at dksX1_keep_0 23 rfl rfl)
theorem dX1_keep_24 : decode cX1_keep 24 = .ok (.aload_n 0, 1) := dk_42 (dk_at dksX1_keep_1 0 rfl rfl)
theorem dX1_keep_25 : decode cX1_keep 25 = .ok (.getfield 34, 3) := dk_180 0 34 (dk_at dksX1_keep_1 1 rfl rfl)
theorem dX1_keep_28 : decode cX1_keep 28 = .ok (.iload_n 1, 1) := dk_27 (dk_at dksX1_keep_1 4 rfl rfl)
theorem dX1_keep_29 : decode cX1_keep 29 = .ok (.aload_n 0, 1) := dk_42 (dk_at dksX1_keep_1 5 rfl rfl)
theorem dX1_keep_30 : decode cX1_keep 30 = .ok (.getfield 12, 3) := dk_180 0 12 (dk_at dksX1_keep_1 6 rfl rfl)
theorem dX1_keep_33 : decode cX1_keep 33 = .ok (.getfield 95, 3) := dk_180 0 95 (dk_at dksX1_keep_1 9 rfl rfl)
theorem dX1_keep_36 : decode cX1_keep 36 = .ok (.invokevirtual 275, 3) := dk_182 1 19 (dk_at dksX1_keep_1 12 rfl rfl)
theorem dX1_keep_39 : decode cX1_keep 39 = .ok (.aastore, 1) := dk_83 (dk_at dksX1_keep_1 15 rfl rfl)
theorem dX1_keep_40 : decode cX1_keep 40 = .ok (.iload_n 2, 1) := dk_28 (dk_at dksX1_keep_1 16 rfl rfl)
theorem dX1_keep_41 : decode cX1_keep 41 = .ok (.ireturn, 1) := dk_172 (dk_at dksX1_keep_1 17 rfl rfl)
abbrev cX1_isSame : ByteArray := prog_1_method_71_code
def yX1_isSame : MethodName := ⟨RX1, "isSame", "(I)Z"⟩
def dkwX1_isSame_3 : List UInt8 := [182, 1, 127, 25, 6, 180, 1, 102, 159, 0, 5, 3, 172, 132, 5, 1, 167, 255, 204, 4, 172]
abbrev dktX1_isSame_3 : List UInt8 := dkwX1_isSame_3 ++ []
def dkwX1_isSame_2 : List UInt8 := [44, 25, 6, 182, 1, 116, 185, 1, 120, 2, 0, 192, 1, 125, 58, 7, 25, 7, 198, 0, 16, 25, 7]
abbrev dktX1_isSame_2 : List UInt8 := dkwX1_isSame_2 ++ dktX1_isSame_3
def dkwX1_isSame_1 : List UInt8 := [180, 0, 99, 78, 45, 190, 54, 4, 3, 54, 5, 21, 5, 21, 4, 162, 0, 51, 45, 21, 5, 50, 58, 6]
abbrev dktX1_isSame_1 : List UInt8 := dkwX1_isSame_1 ++ dktX1_isSame_2
def dkwX1_isSame_0 : List UInt8 := [42, 27, 182, 1, 15, 182, 1, 8, 182, 1, 112, 77, 42, 180, 0, 12, 180, 0, 95, 182, 1, 8]
abbrev dktX1_isSame_0 : List UInt8 := dkwX1_isSame_0 ++ dktX1_isSame_1
theorem dksX1_isSame_0 : cX1_isSame.data.toList.drop 0 = dktX1_isSame_0 := by decide +kernel
theorem dksX1_isSame_1 : cX1_isSame.data.toList.drop 22 = dktX1_isSame_1 := dk_seg dksX1_isSame_0 22 rfl rfl
theorem dksX1_isSame_2 : cX1_isSame.data.toList.drop 46 = dktX1_isSame_2 := dk_seg dksX1_isSame_1 24 rfl rfl
theorem dksX1_isSame_3 : cX1_isSame.data.toList.drop 69 = dktX1_isSame_3 := dk_seg dksX1_isSame_2 23 rfl rfl
theorem dX1_isSame_0 : decode cX1_isSame 0 = .ok (.aload_n 0, 1) := dk_42 (dk_at dksX1_isSame_0 0 rfl rfl)
theorem dX1_isSame_1 : decode cX1_isSame 1 = .ok (.iload_n 1, 1) := dk_27 (dk_at dksX1_isSame_0 1 rfl rfl)
theorem dX1_isSame_2 : decode cX1_isSame 2 = .ok (.invokevirtual 271, 3) := dk_182 1 15 (dk_at dksX1_isSame_0 2 rfl rfl)
theorem dX1_isSame_5 : decode cX1_isSame 5 = .ok (.invokevirtual 264, 3) := dk_182 1 8 (dk_at dksX1_isSame_0 5 rfl rfl)
theorem dX1_isSame_8 : decode cX1_isSame 8 = .ok (.invokevirtual 368, 3) := dk_182 1 112 (dk_at dksX1_isSame_0 8 rfl rfl)
theorem dX1_isSame_11 : decode cX1_isSame 11 = .ok (.astore_n 2, 1) := dk_77 (dk_at dksX1_isSame_0 11 rfl rfl)
theorem dX1_isSame_12 : decode cX1_isSame 12 = .ok (.aload_n 0, 1) := dk_42 (dk_at dksX1_isSame_0 12 rfl rfl)
theorem dX1_isSame_13 : decode cX1_isSame 13 = .ok (.getfield 12, 3) := dk_180 0 12 (dk_at dksX1_isSame_0 13 rfl rfl)
theorem dX1_isSame_16 : decode cX1_isSame 16 = .ok (.getfield 95, 3) := dk_180 0 95 (dk_at dksX1_isSame_0 16 rfl rfl)
theorem dX1_isSame_19 : decode cX1_isSame 19 = .ok (.invokevirtual 264, 3) := dk_182 1 8 (dk_at dksX1_isSame_0 19 rfl rfl)
theorem dX1_isSame_22 : decode cX1_isSame 22 = .ok (.getfield 99, 3) := dk_180 0 99 (dk_at dksX1_isSame_1 0 rfl rfl)
theorem dX1_isSame_25 : decode cX1_isSame 25 = .ok (.astore_n 3, 1) := dk_78 (dk_at dksX1_isSame_1 3 rfl rfl)
theorem dX1_isSame_26 : decode cX1_isSame 26 = .ok (.aload_n 3, 1) := dk_45 (dk_at dksX1_isSame_1 4 rfl rfl)
theorem dX1_isSame_27 : decode cX1_isSame 27 = .ok (.arraylength, 1) := dk_190 (dk_at dksX1_isSame_1 5 rfl rfl)
theorem dX1_isSame_28 : decode cX1_isSame 28 = .ok (.istore 4, 2) := dk_54 4 (dk_at dksX1_isSame_1 6 rfl rfl)
theorem dX1_isSame_30 : decode cX1_isSame 30 = .ok (.iconst 0, 1) := dk_3 (dk_at dksX1_isSame_1 8 rfl rfl)
theorem dX1_isSame_31 : decode cX1_isSame 31 = .ok (.istore 5, 2) := dk_54 5 (dk_at dksX1_isSame_1 9 rfl rfl)
theorem dX1_isSame_33 : decode cX1_isSame 33 = .ok (.iload 5, 2) := dk_21 5 (dk_at dksX1_isSame_1 11 rfl rfl)
theorem dX1_isSame_35 : decode cX1_isSame 35 = .ok (.iload 4, 2) := dk_21 4 (dk_at dksX1_isSame_1 13 rfl rfl)
theorem dX1_isSame_37 : decode cX1_isSame 37 = .ok (.if_icmp .ge 51, 3) := dk_162 0 51 (dk_at dksX1_isSame_1 15 rfl rfl)
theorem dX1_isSame_40 : decode cX1_isSame 40 = .ok (.aload_n 3, 1) := dk_45 (dk_at dksX1_isSame_1 18 rfl rfl)
theorem dX1_isSame_41 : decode cX1_isSame 41 = .ok (.iload 5, 2) := dk_21 5 (dk_at dksX1_isSame_1 19 rfl rfl)
theorem dX1_isSame_43 : decode cX1_isSame 43 = .ok (.aaload, 1) := dk_50 (dk_at dksX1_isSame_1 21 rfl rfl)
theorem dX1_isSame_44 : decode cX1_isSame 44 = .ok (.astore 6, 2) := dk_58 6 (dk_at dksX1_isSame_1 22 rfl rfl)
theorem dX1_isSame_46 : decode cX1_isSame 46 = .ok (.aload_n 2, 1) := dk_44 (dk_at dksX1_isSame_2 0 rfl rfl)
theorem dX1_isSame_47 : decode cX1_isSame 47 = .ok (.aload 6, 2) := dk_25 6 (dk_at dksX1_isSame_2 1 rfl rfl)
theorem dX1_isSame_49 : decode cX1_isSame 49 = .ok (.invokevirtual 372, 3) := dk_182 1 116 (dk_at dksX1_isSame_2 3 rfl rfl)
theorem dX1_isSame_52 : decode cX1_isSame 52 = .ok (.invokeinterface 376 2, 5) := by decide +kernel
theorem dX1_isSame_57 : decode cX1_isSame 57 = .ok (.checkcast 381, 3) := dk_192 1 125 (dk_at dksX1_isSame_2 11 rfl rfl)
theorem dX1_isSame_60 : decode cX1_isSame 60 = .ok (.astore 7, 2) := dk_58 7 (dk_at dksX1_isSame_2 14 rfl rfl)
theorem dX1_isSame_62 : decode cX1_isSame 62 = .ok (.aload 7, 2) := dk_25 7 (dk_at dksX1_isSame_2 16 rfl rfl)
theorem dX1_isSame_64 : decode cX1_isSame 64 = .ok (.ifnull 16, 3) := dk_198 0 16 (dk_at dksX1_isSame_2 18 rfl rfl)
theorem dX1_isSame_67 : decode cX1_isSame 67 = .ok (.aload 7, 2) := dk_25 7 (dk_at dksX1_isSame_2 21 rfl rfl)
theorem dX1_isSame_69 : decode cX1_isSame 69 = .ok (.invokevirtual 383, 3) := dk_182 1 127 (dk_at dksX1_isSame_3 0 rfl rfl)
theorem dX1_isSame_72 : decode cX1_isSame 72 = .ok (.aload 6, 2) := dk_25 6 (dk_at dksX1_isSame_3 3 rfl rfl)
theorem dX1_isSame_74 : decode cX1_isSame 74 = .ok (.getfield 358, 3) := dk_180 1 102 (dk_at dksX1_isSame_3 5 rfl rfl)
theorem dX1_isSame_77 : decode cX1_isSame 77 = .ok (.if_icmp .eq 5, 3) := dk_159 0 5 (dk_at dksX1_isSame_3 8 rfl rfl)
theorem dX1_isSame_80 : decode cX1_isSame 80 = .ok (.iconst 0, 1) := dk_3 (dk_at dksX1_isSame_3 11 rfl rfl)
theorem dX1_isSame_81 : decode cX1_isSame 81 = .ok (.ireturn, 1) := dk_172 (dk_at dksX1_isSame_3 12 rfl rfl)
theorem dX1_isSame_82 : decode cX1_isSame 82 = .ok (.iinc 5 1, 3) := dk_132 5 1 (dk_at dksX1_isSame_3 13 rfl rfl)
theorem dX1_isSame_85 : decode cX1_isSame 85 = .ok (.goto (-52), 3) := dk_167 255 204 (dk_at dksX1_isSame_3 16 rfl rfl)
theorem dX1_isSame_88 : decode cX1_isSame 88 = .ok (.iconst 1, 1) := dk_4 (dk_at dksX1_isSame_3 19 rfl rfl)
theorem dX1_isSame_89 : decode cX1_isSame 89 = .ok (.ireturn, 1) := dk_172 (dk_at dksX1_isSame_3 20 rfl rfl)
abbrev cX1_overlap : ByteArray := prog_1_method_72_code
def yX1_overlap : MethodName := ⟨RX1, "overlap", "(I)I"⟩
def dkwX1_overlap_3 : List UInt8 := [182, 0, 173, 29, 184, 0, 92, 100, 172]
abbrev dktX1_overlap_3 : List UInt8 := dkwX1_overlap_3 ++ []
def dkwX1_overlap_2 : List UInt8 := [182, 1, 130, 54, 6, 21, 6, 2, 160, 0, 5, 2, 172, 29, 21, 6, 96, 62, 167, 255, 213, 42]
abbrev dktX1_overlap_2 : List UInt8 := dkwX1_overlap_2 ++ dktX1_overlap_3
def dkwX1_overlap_1 : List UInt8 := [185, 1, 65, 1, 0, 153, 0, 39, 25, 4, 185, 1, 70, 1, 0, 192, 0, 224, 58, 5, 44, 25, 5]
abbrev dktX1_overlap_1 : List UInt8 := dkwX1_overlap_1 ++ dktX1_overlap_2
def dkwX1_overlap_0 : List UInt8 := [42, 27, 182, 1, 15, 77, 3, 62, 42, 180, 0, 12, 180, 0, 95, 182, 1, 61, 58, 4, 25, 4]
abbrev dktX1_overlap_0 : List UInt8 := dkwX1_overlap_0 ++ dktX1_overlap_1
theorem dksX1_overlap_0 : cX1_overlap.data.toList.drop 0 = dktX1_overlap_0 := by decide +kernel
theorem dksX1_overlap_1 : cX1_overlap.data.toList.drop 22 = dktX1_overlap_1 := dk_seg dksX1_overlap_0 22 rfl rfl
theorem dksX1_overlap_2 : cX1_overlap.data.toList.drop 45 = dktX1_overlap_2 := dk_seg dksX1_overlap_1 23 rfl rfl
theorem dksX1_overlap_3 : cX1_overlap.data.toList.drop 67 = dktX1_overlap_3 := dk_seg dksX1_overlap_2 22 rfl rfl
theorem dX1_overlap_0 : decode cX1_overlap 0 = .ok (.aload_n 0, 1) := dk_42 (dk_at dksX1_overlap_0 0 rfl rfl)
theorem dX1_overlap_1 : decode cX1_overlap 1 = .ok (.iload_n 1, 1) := dk_27 (dk_at dksX1_overlap_0 1 rfl rfl)
theorem dX1_overlap_2 : decode cX1_overlap 2 = .ok (.invokevirtual 271, 3) := dk_182 1 15 (dk_at dksX1_overlap_0 2 rfl rfl)
theorem dX1_overlap_5 : decode cX1_overlap 5 = .ok (.astore_n 2, 1) := dk_77 (dk_at dksX1_overlap_0 5 rfl rfl)
theorem dX1_overlap_6 : decode cX1_overlap 6 = .ok (.iconst 0, 1) := dk_3 (dk_at dksX1_overlap_0 6 rfl rfl)
theorem dX1_overlap_7 : decode cX1_overlap 7 = .ok (.istore_n 3, 1) := dk_62 (dk_at dksX1_overlap_0 7 rfl rfl)
theorem dX1_overlap_8 : decode cX1_overlap 8 = .ok (.aload_n 0, 1) := dk_42 (dk_at dksX1_overlap_0 8 rfl rfl)
theorem dX1_overlap_9 : decode cX1_overlap 9 = .ok (.getfield 12, 3) := dk_180 0 12 (dk_at dksX1_overlap_0 9 rfl rfl)
theorem dX1_overlap_12 : decode cX1_overlap 12 = .ok (.getfield 95, 3) := dk_180 0 95 (dk_at dksX1_overlap_0 12 rfl rfl)
theorem dX1_overlap_15 : decode cX1_overlap 15 = .ok (.invokevirtual 317, 3) := dk_182 1 61 (dk_at dksX1_overlap_0 15 rfl rfl)
theorem dX1_overlap_18 : decode cX1_overlap 18 = .ok (.astore 4, 2) := dk_58 4 (dk_at dksX1_overlap_0 18 rfl rfl)
theorem dX1_overlap_20 : decode cX1_overlap 20 = .ok (.aload 4, 2) := dk_25 4 (dk_at dksX1_overlap_0 20 rfl rfl)
theorem dX1_overlap_22 : decode cX1_overlap 22 = .ok (.invokeinterface 321 1, 5) := by decide +kernel
theorem dX1_overlap_27 : decode cX1_overlap 27 = .ok (.ifCond .eq 39, 3) := dk_153 0 39 (dk_at dksX1_overlap_1 5 rfl rfl)
theorem dX1_overlap_30 : decode cX1_overlap 30 = .ok (.aload 4, 2) := dk_25 4 (dk_at dksX1_overlap_1 8 rfl rfl)
theorem dX1_overlap_32 : decode cX1_overlap 32 = .ok (.invokeinterface 326 1, 5) := by decide +kernel
theorem dX1_overlap_37 : decode cX1_overlap 37 = .ok (.checkcast 224, 3) := dk_192 0 224 (dk_at dksX1_overlap_1 15 rfl rfl)
theorem dX1_overlap_40 : decode cX1_overlap 40 = .ok (.astore 5, 2) := dk_58 5 (dk_at dksX1_overlap_1 18 rfl rfl)
theorem dX1_overlap_42 : decode cX1_overlap 42 = .ok (.aload_n 2, 1) := dk_44 (dk_at dksX1_overlap_1 20 rfl rfl)
theorem dX1_overlap_43 : decode cX1_overlap 43 = .ok (.aload 5, 2) := dk_25 5 (dk_at dksX1_overlap_1 21 rfl rfl)
theorem dX1_overlap_45 : decode cX1_overlap 45 = .ok (.invokevirtual 386, 3) := dk_182 1 130 (dk_at dksX1_overlap_2 0 rfl rfl)
theorem dX1_overlap_48 : decode cX1_overlap 48 = .ok (.istore 6, 2) := dk_54 6 (dk_at dksX1_overlap_2 3 rfl rfl)
theorem dX1_overlap_50 : decode cX1_overlap 50 = .ok (.iload 6, 2) := dk_21 6 (dk_at dksX1_overlap_2 5 rfl rfl)
theorem dX1_overlap_52 : decode cX1_overlap 52 = .ok (.iconst (-1), 1) := dk_2 (dk_at dksX1_overlap_2 7 rfl rfl)
theorem dX1_overlap_53 : decode cX1_overlap 53 = .ok (.if_icmp .ne 5, 3) := dk_160 0 5 (dk_at dksX1_overlap_2 8 rfl rfl)
theorem dX1_overlap_56 : decode cX1_overlap 56 = .ok (.iconst (-1), 1) := dk_2 (dk_at dksX1_overlap_2 11 rfl rfl)
theorem dX1_overlap_57 : decode cX1_overlap 57 = .ok (.ireturn, 1) := dk_172 (dk_at dksX1_overlap_2 12 rfl rfl)
theorem dX1_overlap_58 : decode cX1_overlap 58 = .ok (.iload_n 3, 1) := dk_29 (dk_at dksX1_overlap_2 13 rfl rfl)
theorem dX1_overlap_59 : decode cX1_overlap 59 = .ok (.iload 6, 2) := dk_21 6 (dk_at dksX1_overlap_2 14 rfl rfl)
theorem dX1_overlap_61 : decode cX1_overlap 61 = .ok (.iadd, 1) := dk_96 (dk_at dksX1_overlap_2 16 rfl rfl)
theorem dX1_overlap_62 : decode cX1_overlap 62 = .ok (.istore_n 3, 1) := dk_62 (dk_at dksX1_overlap_2 17 rfl rfl)
theorem dX1_overlap_63 : decode cX1_overlap 63 = .ok (.goto (-43), 3) := dk_167 255 213 (dk_at dksX1_overlap_2 18 rfl rfl)
theorem dX1_overlap_66 : decode cX1_overlap 66 = .ok (.aload_n 0, 1) := dk_42 (dk_at dksX1_overlap_2 21 rfl rfl)
theorem dX1_overlap_67 : decode cX1_overlap 67 = .ok (.invokevirtual 173, 3) := dk_182 0 173 (dk_at dksX1_overlap_3 0 rfl rfl)
theorem dX1_overlap_70 : decode cX1_overlap 70 = .ok (.iload_n 3, 1) := dk_29 (dk_at dksX1_overlap_3 3 rfl rfl)
theorem dX1_overlap_71 : decode cX1_overlap 71 = .ok (.invokestatic 92, 3) := dk_184 0 92 (dk_at dksX1_overlap_3 4 rfl rfl)
theorem dX1_overlap_74 : decode cX1_overlap 74 = .ok (.isub, 1) := dk_100 (dk_at dksX1_overlap_3 7 rfl rfl)
theorem dX1_overlap_75 : decode cX1_overlap 75 = .ok (.ireturn, 1) := dk_172 (dk_at dksX1_overlap_3 8 rfl rfl)
abbrev cX1_agreeing : ByteArray := prog_1_method_73_code
def yX1_agreeing : MethodName := ⟨RX1, "agreeing", "(I)I"⟩
def dkwX1_agreeing_2 : List UInt8 := [182, 1, 130, 4, 160, 0, 6, 132, 3, 1, 167, 255, 221, 29, 172]
abbrev dktX1_agreeing_2 : List UInt8 := dkwX1_agreeing_2 ++ []
def dkwX1_agreeing_1 : List UInt8 := [185, 1, 65, 1, 0, 153, 0, 31, 25, 4, 185, 1, 70, 1, 0, 192, 0, 224, 58, 5, 44, 25, 5]
abbrev dktX1_agreeing_1 : List UInt8 := dkwX1_agreeing_1 ++ dktX1_agreeing_2
def dkwX1_agreeing_0 : List UInt8 := [42, 27, 182, 1, 15, 77, 3, 62, 42, 180, 0, 12, 180, 0, 95, 182, 1, 61, 58, 4, 25, 4]
abbrev dktX1_agreeing_0 : List UInt8 := dkwX1_agreeing_0 ++ dktX1_agreeing_1
theorem dksX1_agreeing_0 : cX1_agreeing.data.toList.drop 0 = dktX1_agreeing_0 := by decide +kernel
theorem dksX1_agreeing_1 : cX1_agreeing.data.toList.drop 22 = dktX1_agreeing_1 := dk_seg dksX1_agreeing_0 22 rfl rfl
theorem dksX1_agreeing_2 : cX1_agreeing.data.toList.drop 45 = dktX1_agreeing_2 := dk_seg dksX1_agreeing_1 23 rfl rfl
theorem dX1_agreeing_0 : decode cX1_agreeing 0 = .ok (.aload_n 0, 1) := dk_42 (dk_at dksX1_agreeing_0 0 rfl rfl)
theorem dX1_agreeing_1 : decode cX1_agreeing 1 = .ok (.iload_n 1, 1) := dk_27 (dk_at dksX1_agreeing_0 1 rfl rfl)
theorem dX1_agreeing_2 : decode cX1_agreeing 2 = .ok (.invokevirtual 271, 3) := dk_182 1 15 (dk_at dksX1_agreeing_0 2 rfl rfl)
theorem dX1_agreeing_5 : decode cX1_agreeing 5 = .ok (.astore_n 2, 1) := dk_77 (dk_at dksX1_agreeing_0 5 rfl rfl)
theorem dX1_agreeing_6 : decode cX1_agreeing 6 = .ok (.iconst 0, 1) := dk_3 (dk_at dksX1_agreeing_0 6 rfl rfl)
theorem dX1_agreeing_7 : decode cX1_agreeing 7 = .ok (.istore_n 3, 1) := dk_62 (dk_at dksX1_agreeing_0 7 rfl rfl)
theorem dX1_agreeing_8 : decode cX1_agreeing 8 = .ok (.aload_n 0, 1) := dk_42 (dk_at dksX1_agreeing_0 8 rfl rfl)
theorem dX1_agreeing_9 : decode cX1_agreeing 9 = .ok (.getfield 12, 3) := dk_180 0 12 (dk_at dksX1_agreeing_0 9 rfl rfl)
theorem dX1_agreeing_12 : decode cX1_agreeing 12 = .ok (.getfield 95, 3) := dk_180 0 95 (dk_at dksX1_agreeing_0 12 rfl rfl)
theorem dX1_agreeing_15 : decode cX1_agreeing 15 = .ok (.invokevirtual 317, 3) := dk_182 1 61 (dk_at dksX1_agreeing_0 15 rfl rfl)
theorem dX1_agreeing_18 : decode cX1_agreeing 18 = .ok (.astore 4, 2) := dk_58 4 (dk_at dksX1_agreeing_0 18 rfl rfl)
theorem dX1_agreeing_20 : decode cX1_agreeing 20 = .ok (.aload 4, 2) := dk_25 4 (dk_at dksX1_agreeing_0 20 rfl rfl)
theorem dX1_agreeing_22 : decode cX1_agreeing 22 = .ok (.invokeinterface 321 1, 5) := by decide +kernel
theorem dX1_agreeing_27 : decode cX1_agreeing 27 = .ok (.ifCond .eq 31, 3) := dk_153 0 31 (dk_at dksX1_agreeing_1 5 rfl rfl)
theorem dX1_agreeing_30 : decode cX1_agreeing 30 = .ok (.aload 4, 2) := dk_25 4 (dk_at dksX1_agreeing_1 8 rfl rfl)
theorem dX1_agreeing_32 : decode cX1_agreeing 32 = .ok (.invokeinterface 326 1, 5) := by decide +kernel
theorem dX1_agreeing_37 : decode cX1_agreeing 37 = .ok (.checkcast 224, 3) := dk_192 0 224 (dk_at dksX1_agreeing_1 15 rfl rfl)
theorem dX1_agreeing_40 : decode cX1_agreeing 40 = .ok (.astore 5, 2) := dk_58 5 (dk_at dksX1_agreeing_1 18 rfl rfl)
theorem dX1_agreeing_42 : decode cX1_agreeing 42 = .ok (.aload_n 2, 1) := dk_44 (dk_at dksX1_agreeing_1 20 rfl rfl)
theorem dX1_agreeing_43 : decode cX1_agreeing 43 = .ok (.aload 5, 2) := dk_25 5 (dk_at dksX1_agreeing_1 21 rfl rfl)
theorem dX1_agreeing_45 : decode cX1_agreeing 45 = .ok (.invokevirtual 386, 3) := dk_182 1 130 (dk_at dksX1_agreeing_2 0 rfl rfl)
theorem dX1_agreeing_48 : decode cX1_agreeing 48 = .ok (.iconst 1, 1) := dk_4 (dk_at dksX1_agreeing_2 3 rfl rfl)
theorem dX1_agreeing_49 : decode cX1_agreeing 49 = .ok (.if_icmp .ne 6, 3) := dk_160 0 6 (dk_at dksX1_agreeing_2 4 rfl rfl)
theorem dX1_agreeing_52 : decode cX1_agreeing 52 = .ok (.iinc 3 1, 3) := dk_132 3 1 (dk_at dksX1_agreeing_2 7 rfl rfl)
theorem dX1_agreeing_55 : decode cX1_agreeing 55 = .ok (.goto (-35), 3) := dk_167 255 221 (dk_at dksX1_agreeing_2 10 rfl rfl)
theorem dX1_agreeing_58 : decode cX1_agreeing 58 = .ok (.iload_n 3, 1) := dk_29 (dk_at dksX1_agreeing_2 13 rfl rfl)
theorem dX1_agreeing_59 : decode cX1_agreeing 59 = .ok (.ireturn, 1) := dk_172 (dk_at dksX1_agreeing_2 14 rfl rfl)
abbrev cX1_outsiders : ByteArray := prog_1_method_74_code
def yX1_outsiders : MethodName := ⟨RX1, "outsiders", "(I)I"⟩
def dkwX1_outsiders_5 : List UInt8 := [21, 5, 120, 128, 54, 4, 132, 5, 1, 167, 255, 210, 21, 4, 172]
abbrev dktX1_outsiders_5 : List UInt8 := dkwX1_outsiders_5 ++ []
def dkwX1_outsiders_4 : List UInt8 := [180, 0, 95, 180, 0, 99, 21, 5, 50, 182, 1, 116, 185, 1, 142, 2, 0, 153, 0, 12, 21, 4, 4]
abbrev dktX1_outsiders_4 : List UInt8 := dkwX1_outsiders_4 ++ dktX1_outsiders_5
def dkwX1_outsiders_3 : List UInt8 := [167, 255, 218, 3, 54, 4, 3, 54, 5, 21, 5, 42, 182, 0, 173, 162, 0, 43, 44, 42, 180, 0, 12]
abbrev dktX1_outsiders_3 : List UInt8 := dkwX1_outsiders_3 ++ dktX1_outsiders_4
def dkwX1_outsiders_2 : List UInt8 := [45, 25, 7, 182, 1, 130, 154, 0, 15, 44, 25, 7, 182, 1, 116, 185, 1, 136, 2, 0, 87, 132, 6, 1]
abbrev dktX1_outsiders_2 : List UInt8 := dkwX1_outsiders_2 ++ dktX1_outsiders_3
def dkwX1_outsiders_1 : List UInt8 := [58, 4, 25, 4, 190, 54, 5, 3, 54, 6, 21, 6, 21, 5, 162, 0, 37, 25, 4, 21, 6, 50, 58, 7]
abbrev dktX1_outsiders_1 : List UInt8 := dkwX1_outsiders_1 ++ dktX1_outsiders_2
def dkwX1_outsiders_0 : List UInt8 := [187, 1, 133, 89, 183, 1, 135, 77, 42, 27, 182, 1, 15, 78, 42, 180, 0, 12, 180, 0, 95, 180, 0, 99]
abbrev dktX1_outsiders_0 : List UInt8 := dkwX1_outsiders_0 ++ dktX1_outsiders_1
theorem dksX1_outsiders_0 : cX1_outsiders.data.toList.drop 0 = dktX1_outsiders_0 := by decide +kernel
theorem dksX1_outsiders_1 : cX1_outsiders.data.toList.drop 24 = dktX1_outsiders_1 := dk_seg dksX1_outsiders_0 24 rfl rfl
theorem dksX1_outsiders_2 : cX1_outsiders.data.toList.drop 48 = dktX1_outsiders_2 := dk_seg dksX1_outsiders_1 24 rfl rfl
theorem dksX1_outsiders_3 : cX1_outsiders.data.toList.drop 72 = dktX1_outsiders_3 := dk_seg dksX1_outsiders_2 24 rfl rfl
theorem dksX1_outsiders_4 : cX1_outsiders.data.toList.drop 95 = dktX1_outsiders_4 := dk_seg dksX1_outsiders_3 23 rfl rfl
theorem dksX1_outsiders_5 : cX1_outsiders.data.toList.drop 118 = dktX1_outsiders_5 := dk_seg dksX1_outsiders_4 23 rfl rfl
theorem dX1_outsiders_0 : decode cX1_outsiders 0 = .ok (.new 389, 3) := dk_187 1 133 (dk_at dksX1_outsiders_0 0 rfl rfl)
theorem dX1_outsiders_3 : decode cX1_outsiders 3 = .ok (.dup, 1) := dk_89 (dk_at dksX1_outsiders_0 3 rfl rfl)
theorem dX1_outsiders_4 : decode cX1_outsiders 4 = .ok (.invokespecial 391, 3) := dk_183 1 135 (dk_at dksX1_outsiders_0 4 rfl rfl)
theorem dX1_outsiders_7 : decode cX1_outsiders 7 = .ok (.astore_n 2, 1) := dk_77 (dk_at dksX1_outsiders_0 7 rfl rfl)
theorem dX1_outsiders_8 : decode cX1_outsiders 8 = .ok (.aload_n 0, 1) := dk_42 (dk_at dksX1_outsiders_0 8 rfl rfl)
theorem dX1_outsiders_9 : decode cX1_outsiders 9 = .ok (.iload_n 1, 1) := dk_27 (dk_at dksX1_outsiders_0 9 rfl rfl)
theorem dX1_outsiders_10 : decode cX1_outsiders 10 = .ok (.invokevirtual 271, 3) := dk_182 1 15 (dk_at dksX1_outsiders_0 10 rfl rfl)
theorem dX1_outsiders_13 : decode cX1_outsiders 13 = .ok (.astore_n 3, 1) := dk_78 (dk_at dksX1_outsiders_0 13 rfl rfl)
theorem dX1_outsiders_14 : decode cX1_outsiders 14 = .ok (.aload_n 0, 1) := dk_42 (dk_at dksX1_outsiders_0 14 rfl rfl)
theorem dX1_outsiders_15 : decode cX1_outsiders 15 = .ok (.getfield 12, 3) := dk_180 0 12 (dk_at dksX1_outsiders_0 15 rfl rfl)
theorem dX1_outsiders_18 : decode cX1_outsiders 18 = .ok (.getfield 95, 3) := dk_180 0 95 (dk_at dksX1_outsiders_0 18 rfl rfl)
theorem dX1_outsiders_21 : decode cX1_outsiders 21 = .ok (.getfield 99, 3) := dk_180 0 99 (dk_at dksX1_outsiders_0 21 rfl rfl)
theorem dX1_outsiders_24 : decode cX1_outsiders 24 = .ok (.astore 4, 2) := dk_58 4 (dk_at dksX1_outsiders_1 0 rfl rfl)
theorem dX1_outsiders_26 : decode cX1_outsiders 26 = .ok (.aload 4, 2) := dk_25 4 (dk_at dksX1_outsiders_1 2 rfl rfl)
theorem dX1_outsiders_28 : decode cX1_outsiders 28 = .ok (.arraylength, 1) := dk_190 (dk_at dksX1_outsiders_1 4 rfl rfl)
theorem dX1_outsiders_29 : decode cX1_outsiders 29 = .ok (.istore 5, 2) := dk_54 5 (dk_at dksX1_outsiders_1 5 rfl rfl)
theorem dX1_outsiders_31 : decode cX1_outsiders 31 = .ok (.iconst 0, 1) := dk_3 (dk_at dksX1_outsiders_1 7 rfl rfl)
theorem dX1_outsiders_32 : decode cX1_outsiders 32 = .ok (.istore 6, 2) := dk_54 6 (dk_at dksX1_outsiders_1 8 rfl rfl)
theorem dX1_outsiders_34 : decode cX1_outsiders 34 = .ok (.iload 6, 2) := dk_21 6 (dk_at dksX1_outsiders_1 10 rfl rfl)
theorem dX1_outsiders_36 : decode cX1_outsiders 36 = .ok (.iload 5, 2) := dk_21 5 (dk_at dksX1_outsiders_1 12 rfl rfl)
theorem dX1_outsiders_38 : decode cX1_outsiders 38 = .ok (.if_icmp .ge 37, 3) := dk_162 0 37 (dk_at dksX1_outsiders_1 14 rfl rfl)
theorem dX1_outsiders_41 : decode cX1_outsiders 41 = .ok (.aload 4, 2) := dk_25 4 (dk_at dksX1_outsiders_1 17 rfl rfl)
theorem dX1_outsiders_43 : decode cX1_outsiders 43 = .ok (.iload 6, 2) := dk_21 6 (dk_at dksX1_outsiders_1 19 rfl rfl)
theorem dX1_outsiders_45 : decode cX1_outsiders 45 = .ok (.aaload, 1) := dk_50 (dk_at dksX1_outsiders_1 21 rfl rfl)
theorem dX1_outsiders_46 : decode cX1_outsiders 46 = .ok (.astore 7, 2) := dk_58 7 (dk_at dksX1_outsiders_1 22 rfl rfl)
theorem dX1_outsiders_48 : decode cX1_outsiders 48 = .ok (.aload_n 3, 1) := dk_45 (dk_at dksX1_outsiders_2 0 rfl rfl)
theorem dX1_outsiders_49 : decode cX1_outsiders 49 = .ok (.aload 7, 2) := dk_25 7 (dk_at dksX1_outsiders_2 1 rfl rfl)
theorem dX1_outsiders_51 : decode cX1_outsiders 51 = .ok (.invokevirtual 386, 3) := dk_182 1 130 (dk_at dksX1_outsiders_2 3 rfl rfl)
theorem dX1_outsiders_54 : decode cX1_outsiders 54 = .ok (.ifCond .ne 15, 3) := dk_154 0 15 (dk_at dksX1_outsiders_2 6 rfl rfl)
theorem dX1_outsiders_57 : decode cX1_outsiders 57 = .ok (.aload_n 2, 1) := dk_44 (dk_at dksX1_outsiders_2 9 rfl rfl)
theorem dX1_outsiders_58 : decode cX1_outsiders 58 = .ok (.aload 7, 2) := dk_25 7 (dk_at dksX1_outsiders_2 10 rfl rfl)
theorem dX1_outsiders_60 : decode cX1_outsiders 60 = .ok (.invokevirtual 372, 3) := dk_182 1 116 (dk_at dksX1_outsiders_2 12 rfl rfl)
theorem dX1_outsiders_63 : decode cX1_outsiders 63 = .ok (.invokeinterface 392 2, 5) := by decide +kernel
theorem dX1_outsiders_68 : decode cX1_outsiders 68 = .ok (.pop, 1) := dk_87 (dk_at dksX1_outsiders_2 20 rfl rfl)
theorem dX1_outsiders_69 : decode cX1_outsiders 69 = .ok (.iinc 6 1, 3) := dk_132 6 1 (dk_at dksX1_outsiders_2 21 rfl rfl)
theorem dX1_outsiders_72 : decode cX1_outsiders 72 = .ok (.goto (-38), 3) := dk_167 255 218 (dk_at dksX1_outsiders_3 0 rfl rfl)
theorem dX1_outsiders_75 : decode cX1_outsiders 75 = .ok (.iconst 0, 1) := dk_3 (dk_at dksX1_outsiders_3 3 rfl rfl)
theorem dX1_outsiders_76 : decode cX1_outsiders 76 = .ok (.istore 4, 2) := dk_54 4 (dk_at dksX1_outsiders_3 4 rfl rfl)
theorem dX1_outsiders_78 : decode cX1_outsiders 78 = .ok (.iconst 0, 1) := dk_3 (dk_at dksX1_outsiders_3 6 rfl rfl)
theorem dX1_outsiders_79 : decode cX1_outsiders 79 = .ok (.istore 5, 2) := dk_54 5 (dk_at dksX1_outsiders_3 7 rfl rfl)
theorem dX1_outsiders_81 : decode cX1_outsiders 81 = .ok (.iload 5, 2) := dk_21 5 (dk_at dksX1_outsiders_3 9 rfl rfl)
theorem dX1_outsiders_83 : decode cX1_outsiders 83 = .ok (.aload_n 0, 1) := dk_42 (dk_at dksX1_outsiders_3 11 rfl rfl)
theorem dX1_outsiders_84 : decode cX1_outsiders 84 = .ok (.invokevirtual 173, 3) := dk_182 0 173 (dk_at dksX1_outsiders_3 12 rfl rfl)
theorem dX1_outsiders_87 : decode cX1_outsiders 87 = .ok (.if_icmp .ge 43, 3) := dk_162 0 43 (dk_at dksX1_outsiders_3 15 rfl rfl)
theorem dX1_outsiders_90 : decode cX1_outsiders 90 = .ok (.aload_n 2, 1) := dk_44 (dk_at dksX1_outsiders_3 18 rfl rfl)
theorem dX1_outsiders_91 : decode cX1_outsiders 91 = .ok (.aload_n 0, 1) := dk_42 (dk_at dksX1_outsiders_3 19 rfl rfl)
theorem dX1_outsiders_92 : decode cX1_outsiders 92 = .ok (.getfield 12, 3) := dk_180 0 12 (dk_at dksX1_outsiders_3 20 rfl rfl)
theorem dX1_outsiders_95 : decode cX1_outsiders 95 = .ok (.getfield 95, 3) := dk_180 0 95 (dk_at dksX1_outsiders_4 0 rfl rfl)
theorem dX1_outsiders_98 : decode cX1_outsiders 98 = .ok (.getfield 99, 3) := dk_180 0 99 (dk_at dksX1_outsiders_4 3 rfl rfl)
theorem dX1_outsiders_101 : decode cX1_outsiders 101 = .ok (.iload 5, 2) := dk_21 5 (dk_at dksX1_outsiders_4 6 rfl rfl)
theorem dX1_outsiders_103 : decode cX1_outsiders 103 = .ok (.aaload, 1) := dk_50 (dk_at dksX1_outsiders_4 8 rfl rfl)
theorem dX1_outsiders_104 : decode cX1_outsiders 104 = .ok (.invokevirtual 372, 3) := dk_182 1 116 (dk_at dksX1_outsiders_4 9 rfl rfl)
theorem dX1_outsiders_107 : decode cX1_outsiders 107 = .ok (.invokeinterface 398 2, 5) := by decide +kernel
theorem dX1_outsiders_112 : decode cX1_outsiders 112 = .ok (.ifCond .eq 12, 3) := dk_153 0 12 (dk_at dksX1_outsiders_4 17 rfl rfl)
theorem dX1_outsiders_115 : decode cX1_outsiders 115 = .ok (.iload 4, 2) := dk_21 4 (dk_at dksX1_outsiders_4 20 rfl rfl)
theorem dX1_outsiders_117 : decode cX1_outsiders 117 = .ok (.iconst 1, 1) := dk_4 (dk_at dksX1_outsiders_4 22 rfl rfl)
theorem dX1_outsiders_118 : decode cX1_outsiders 118 = .ok (.iload 5, 2) := dk_21 5 (dk_at dksX1_outsiders_5 0 rfl rfl)
theorem dX1_outsiders_120 : decode cX1_outsiders 120 = .ok (.ishl, 1) := dk_120 (dk_at dksX1_outsiders_5 2 rfl rfl)
theorem dX1_outsiders_121 : decode cX1_outsiders 121 = .ok (.ior, 1) := dk_128 (dk_at dksX1_outsiders_5 3 rfl rfl)
theorem dX1_outsiders_122 : decode cX1_outsiders 122 = .ok (.istore 4, 2) := dk_54 4 (dk_at dksX1_outsiders_5 4 rfl rfl)
theorem dX1_outsiders_124 : decode cX1_outsiders 124 = .ok (.iinc 5 1, 3) := dk_132 5 1 (dk_at dksX1_outsiders_5 6 rfl rfl)
theorem dX1_outsiders_127 : decode cX1_outsiders 127 = .ok (.goto (-46), 3) := dk_167 255 210 (dk_at dksX1_outsiders_5 9 rfl rfl)
theorem dX1_outsiders_130 : decode cX1_outsiders 130 = .ok (.iload 4, 2) := dk_21 4 (dk_at dksX1_outsiders_5 12 rfl rfl)
theorem dX1_outsiders_132 : decode cX1_outsiders 132 = .ok (.ireturn, 1) := dk_172 (dk_at dksX1_outsiders_5 14 rfl rfl)
abbrev cX1_innerSquare : ByteArray := prog_1_method_75_code
def yX1_innerSquare : MethodName := ⟨RX1, "innerSquare", "(I)F"⟩
def dkwX1_innerSquare_0 : List UInt8 := [42, 27, 182, 1, 144, 61, 28, 2, 160, 0, 7, 11, 167, 0, 9, 12, 4, 28, 120, 134, 110, 174]
abbrev dktX1_innerSquare_0 : List UInt8 := dkwX1_innerSquare_0 ++ []
theorem dksX1_innerSquare_0 : cX1_innerSquare.data.toList.drop 0 = dktX1_innerSquare_0 := by decide +kernel
theorem dX1_innerSquare_0 : decode cX1_innerSquare 0 = .ok (.aload_n 0, 1) := dk_42 (dk_at dksX1_innerSquare_0 0 rfl rfl)
theorem dX1_innerSquare_1 : decode cX1_innerSquare 1 = .ok (.iload_n 1, 1) := dk_27 (dk_at dksX1_innerSquare_0 1 rfl rfl)
theorem dX1_innerSquare_2 : decode cX1_innerSquare 2 = .ok (.invokevirtual 400, 3) := dk_182 1 144 (dk_at dksX1_innerSquare_0 2 rfl rfl)
theorem dX1_innerSquare_5 : decode cX1_innerSquare 5 = .ok (.istore_n 2, 1) := dk_61 (dk_at dksX1_innerSquare_0 5 rfl rfl)
theorem dX1_innerSquare_6 : decode cX1_innerSquare 6 = .ok (.iload_n 2, 1) := dk_28 (dk_at dksX1_innerSquare_0 6 rfl rfl)
theorem dX1_innerSquare_7 : decode cX1_innerSquare 7 = .ok (.iconst (-1), 1) := dk_2 (dk_at dksX1_innerSquare_0 7 rfl rfl)
theorem dX1_innerSquare_8 : decode cX1_innerSquare 8 = .ok (.if_icmp .ne 7, 3) := dk_160 0 7 (dk_at dksX1_innerSquare_0 8 rfl rfl)
theorem dX1_innerSquare_11 : decode cX1_innerSquare 11 = .ok (.fconst 0, 1) := dk_11 (dk_at dksX1_innerSquare_0 11 rfl rfl)
theorem dX1_innerSquare_12 : decode cX1_innerSquare 12 = .ok (.goto 9, 3) := dk_167 0 9 (dk_at dksX1_innerSquare_0 12 rfl rfl)
theorem dX1_innerSquare_15 : decode cX1_innerSquare 15 = .ok (.fconst 1, 1) := dk_12 (dk_at dksX1_innerSquare_0 15 rfl rfl)
theorem dX1_innerSquare_16 : decode cX1_innerSquare 16 = .ok (.iconst 1, 1) := dk_4 (dk_at dksX1_innerSquare_0 16 rfl rfl)
theorem dX1_innerSquare_17 : decode cX1_innerSquare 17 = .ok (.iload_n 2, 1) := dk_28 (dk_at dksX1_innerSquare_0 17 rfl rfl)
theorem dX1_innerSquare_18 : decode cX1_innerSquare 18 = .ok (.ishl, 1) := dk_120 (dk_at dksX1_innerSquare_0 18 rfl rfl)
theorem dX1_innerSquare_19 : decode cX1_innerSquare 19 = .ok (.i2f, 1) := dk_134 (dk_at dksX1_innerSquare_0 19 rfl rfl)
theorem dX1_innerSquare_20 : decode cX1_innerSquare 20 = .ok (.fdiv, 1) := dk_110 (dk_at dksX1_innerSquare_0 20 rfl rfl)
theorem dX1_innerSquare_21 : decode cX1_innerSquare 21 = .ok (.freturn, 1) := dk_174 (dk_at dksX1_innerSquare_0 21 rfl rfl)
theorem q120 : (Jvm.Cond.initialized "StringTableau") ∈ lw_all := lw_g (lw_at lw_m1 1 rfl) rfl
theorem q174 : (Jvm.Cond.instantiable "StringTableau" (9 : Nat)) ∈ lw_all := lw_g (lw_at lw_m1 55 rfl) rfl
theorem q176 : (Jvm.Cond.instanceMethod ({ cls := "StringTableau", name := "<init>", desc := "()V" } : Jvm.MethodName)) ∈ lw_all := lw_g (lw_at lw_m1 57 rfl) rfl
theorem q177 : (Jvm.Cond.code ({ cls := "StringTableau", name := "<init>", desc := "()V" } : Jvm.MethodName) prog_1_method_1_code (1 : Nat) (Option.none : Option Jvm.ClassFile.FieldType)) ∈ lw_all := lw_g (lw_at lw_m1 58 rfl) rfl
theorem q178 : (Jvm.Cond.methodLink "StringTableau" (1 : Nat) ({ cls := "java/lang/Object", name := "<init>", desc := "()V" } : Jvm.MethodName)) ∈ lw_all := lw_g (lw_at lw_m1 59 rfl) rfl
theorem q181 : (Jvm.Cond.classLink "StringTableau" (7 : Nat) "StringTableau$State") ∈ lw_all := lw_g (lw_at lw_m1 62 rfl) rfl
theorem q183 : (Jvm.Cond.methodLink "StringTableau" (9 : Nat) ({ cls := "StringTableau$State", name := "<init>", desc := "(II)V" } : Jvm.MethodName)) ∈ lw_all := lw_g (lw_at lw_m1 64 rfl) rfl
theorem q250 : (Jvm.Cond.fieldLinkNest "StringTableau" (280 : Nat) "StringTableau$Row" "x" "I" "StringTableau") ∈ lw_tbl := lw_at lw_m1 131 rfl
theorem q255 : (Jvm.Cond.fieldLinkNest "StringTableau" (283 : Nat) "StringTableau$Row" "z" "I" "StringTableau") ∈ lw_tbl := lw_at lw_m1 136 rfl
theorem q259 : (Jvm.Cond.fieldLinkNest "StringTableau" (358 : Nat) "StringTableau$Row" "minus" "Z" "StringTableau") ∈ lw_tbl := lw_at lw_m1 140 rfl
theorem q271 : (Jvm.Cond.fieldLinkNest "StringTableau" (99 : Nat) "StringTableau$Tableau" "rows" "[LStringTableau$Row;" "StringTableau") ∈ lw_tbl := lw_at lw_m1 152 rfl
theorem q276 : (Jvm.Cond.fieldLinkNest "StringTableau" (95 : Nat) "StringTableau$State" "tableau" "LStringTableau$Tableau;" "StringTableau") ∈ lw_tbl := lw_at lw_m1 157 rfl
theorem q278 : (Jvm.Cond.fieldLinkNest "StringTableau" (160 : Nat) "StringTableau$State" "records" "Ljava/util/List;" "StringTableau") ∈ lw_tbl := lw_at lw_m1 159 rfl
theorem q280 : (Jvm.Cond.fieldLinkNest "StringTableau" (185 : Nat) "StringTableau$State" "trail" "Ljava/util/ArrayDeque;" "StringTableau") ∈ lw_tbl := lw_at lw_m1 161 rfl
theorem q286 : (Jvm.Cond.fieldLinkNest "StringTableau" (176 : Nat) "StringTableau$State" "place" "I" "StringTableau") ∈ lw_tbl := lw_at lw_m1 167 rfl
theorem q288 : (Jvm.Cond.fieldLinkNest "StringTableau" (182 : Nat) "StringTableau$State" "gates" "I" "StringTableau") ∈ lw_tbl := lw_at lw_m1 169 rfl
theorem q304 : (Jvm.Cond.classLink "StringTableau" (18 : Nat) "java/util/ArrayList") ∈ lw_all := lw_g (lw_at lw_m1 185 rfl) rfl
theorem q305 : (Jvm.Cond.methodLink "StringTableau" (20 : Nat) ({ cls := "java/util/ArrayList", name := "<init>", desc := "()V" } : Jvm.MethodName)) ∈ lw_all := lw_g (lw_at lw_m1 186 rfl) rfl
theorem q306 : (Jvm.Cond.classLink "StringTableau" (25 : Nat) "java/util/ArrayDeque") ∈ lw_all := lw_g (lw_at lw_m1 187 rfl) rfl
theorem q307 : (Jvm.Cond.methodLink "StringTableau" (27 : Nat) ({ cls := "java/util/ArrayDeque", name := "<init>", desc := "()V" } : Jvm.MethodName)) ∈ lw_all := lw_g (lw_at lw_m1 188 rfl) rfl
theorem q308 : (Jvm.Cond.classLink "StringTableau" (32 : Nat) "StringTableau$Tableau") ∈ lw_all := lw_g (lw_at lw_m1 189 rfl) rfl
theorem q310 : (Jvm.Cond.classLink "StringTableau" (46 : Nat) "java/lang/StringBuilder") ∈ lw_all := lw_g (lw_at lw_m1 191 rfl) rfl
theorem q312 : (Jvm.Cond.methodLink "StringTableau" (48 : Nat) ({ cls := "java/lang/StringBuilder", name := "<init>", desc := "()V" } : Jvm.MethodName)) ∈ lw_all := lw_g (lw_at lw_m1 193 rfl) rfl
theorem q343 : (Jvm.Cond.fieldLink "StringTableau" (12 : Nat) "StringTableau" "state" "LStringTableau$State;") ∈ lw_all := lw_g (lw_at lw_m1 224 rfl) rfl
theorem q346 : (Jvm.Cond.fieldLink "StringTableau" (21 : Nat) "StringTableau" "program" "Ljava/util/List;") ∈ lw_all := lw_g (lw_at lw_m1 227 rfl) rfl
theorem q347 : (Jvm.Cond.fieldLink "StringTableau" (28 : Nat) "StringTableau" "history" "Ljava/util/ArrayDeque;") ∈ lw_all := lw_g (lw_at lw_m1 228 rfl) rfl
theorem q348 : (Jvm.Cond.fieldLink "StringTableau" (34 : Nat) "StringTableau" "slots" "[LStringTableau$Tableau;") ∈ lw_all := lw_g (lw_at lw_m1 229 rfl) rfl
theorem q349 : (Jvm.Cond.fieldLink "StringTableau" (38 : Nat) "StringTableau" "buffer" "[B") ∈ lw_all := lw_g (lw_at lw_m1 230 rfl) rfl
theorem q352 : (Jvm.Cond.fieldLink "StringTableau" (119 : Nat) "StringTableau" "length" "I") ∈ lw_all := lw_g (lw_at lw_m1 233 rfl) rfl
theorem q353 : (Jvm.Cond.fieldLink "StringTableau" (126 : Nat) "StringTableau" "errorCode" "I") ∈ lw_all := lw_g (lw_at lw_m1 234 rfl) rfl
theorem q354 : (Jvm.Cond.fieldLink "StringTableau" (42 : Nat) "StringTableau" "errorOffset" "I") ∈ lw_all := lw_g (lw_at lw_m1 235 rfl) rfl
theorem q355 : (Jvm.Cond.fieldLink "StringTableau" (49 : Nat) "StringTableau" "output" "Ljava/lang/StringBuilder;") ∈ lw_all := lw_g (lw_at lw_m1 236 rfl) rfl
theorem q356 : (Jvm.Cond.lays "StringTableau" "StringTableau" "state" "LStringTableau$State;") ∈ lw_all := lw_g (lw_at lw_m1 237 rfl) rfl
theorem q357 : (Jvm.Cond.soleField "StringTableau" "state") ∈ lw_all := lw_g (lw_at lw_m1 238 rfl) rfl
theorem q358 : (Jvm.Cond.lays "StringTableau" "StringTableau" "program" "Ljava/util/List;") ∈ lw_all := lw_g (lw_at lw_m1 239 rfl) rfl
theorem q359 : (Jvm.Cond.soleField "StringTableau" "program") ∈ lw_all := lw_g (lw_at lw_m2 0 rfl) rfl
theorem q360 : (Jvm.Cond.laysFinal "StringTableau" "StringTableau" "history" "Ljava/util/ArrayDeque;") ∈ lw_all := lw_g (lw_at lw_m2 1 rfl) rfl
theorem q361 : (Jvm.Cond.soleField "StringTableau" "history") ∈ lw_all := lw_g (lw_at lw_m2 2 rfl) rfl
theorem q362 : (Jvm.Cond.laysFinal "StringTableau" "StringTableau" "slots" "[LStringTableau$Tableau;") ∈ lw_all := lw_g (lw_at lw_m2 3 rfl) rfl
theorem q363 : (Jvm.Cond.soleField "StringTableau" "slots") ∈ lw_all := lw_g (lw_at lw_m2 4 rfl) rfl
theorem q364 : (Jvm.Cond.laysFinal "StringTableau" "StringTableau" "buffer" "[B") ∈ lw_all := lw_g (lw_at lw_m2 5 rfl) rfl
theorem q365 : (Jvm.Cond.soleField "StringTableau" "buffer") ∈ lw_all := lw_g (lw_at lw_m2 6 rfl) rfl
theorem q366 : (Jvm.Cond.lays "StringTableau" "StringTableau" "length" "I") ∈ lw_all := lw_g (lw_at lw_m2 7 rfl) rfl
theorem q367 : (Jvm.Cond.soleField "StringTableau" "length") ∈ lw_all := lw_g (lw_at lw_m2 8 rfl) rfl
theorem q368 : (Jvm.Cond.lays "StringTableau" "StringTableau" "errorCode" "I") ∈ lw_all := lw_g (lw_at lw_m2 9 rfl) rfl
theorem q369 : (Jvm.Cond.soleField "StringTableau" "errorCode") ∈ lw_all := lw_g (lw_at lw_m2 10 rfl) rfl
theorem q370 : (Jvm.Cond.lays "StringTableau" "StringTableau" "errorOffset" "I") ∈ lw_all := lw_g (lw_at lw_m2 11 rfl) rfl
theorem q371 : (Jvm.Cond.soleField "StringTableau" "errorOffset") ∈ lw_all := lw_g (lw_at lw_m2 12 rfl) rfl
theorem q372 : (Jvm.Cond.laysFinal "StringTableau" "StringTableau" "output" "Ljava/lang/StringBuilder;") ∈ lw_all := lw_g (lw_at lw_m2 13 rfl) rfl
theorem q373 : (Jvm.Cond.soleField "StringTableau" "output") ∈ lw_all := lw_g (lw_at lw_m2 14 rfl) rfl
theorem q374 : (Jvm.Cond.superclass "StringTableau" "java/lang/Object") ∈ lw_all := lw_g (lw_at lw_m2 15 rfl) rfl
theorem q376 : (Jvm.Cond.instanceMethod ({ cls := "StringTableau", name := "feed", desc := "(IIIII)I" } : Jvm.MethodName)) ∈ lw_all := lw_g (lw_at lw_m2 17 rfl) rfl
theorem q377 : (Jvm.Cond.selects "StringTableau" ({ cls := "StringTableau", name := "feed", desc := "(IIIII)I" } : Jvm.MethodName) ({ cls := "StringTableau", name := "feed", desc := "(IIIII)I" } : Jvm.MethodName)) ∈ lw_all := lw_g (lw_at lw_m2 18 rfl) rfl
theorem q378 : (Jvm.Cond.code ({ cls := "StringTableau", name := "feed", desc := "(IIIII)I" } : Jvm.MethodName) prog_1_method_17_code (6 : Nat) (Option.some Jvm.ClassFile.FieldType.int)) ∈ lw_all := lw_g (lw_at lw_m2 19 rfl) rfl
theorem q379 : (Jvm.Cond.methodLink "StringTableau" (122 : Nat) ({ cls := "StringTableau", name := "append", desc := "(I)V" } : Jvm.MethodName)) ∈ lw_all := lw_g (lw_at lw_m2 20 rfl) rfl
theorem q380 : (Jvm.Cond.privateMethod ({ cls := "StringTableau", name := "append", desc := "(I)V" } : Jvm.MethodName)) ∈ lw_tbl := lw_at lw_m2 21 rfl
theorem q381 : (Jvm.Cond.instanceMethod ({ cls := "StringTableau", name := "append", desc := "(I)V" } : Jvm.MethodName)) ∈ lw_all := lw_g (lw_at lw_m2 22 rfl) rfl
theorem q382 : (Jvm.Cond.code ({ cls := "StringTableau", name := "append", desc := "(I)V" } : Jvm.MethodName) prog_1_method_16_code (3 : Nat) (Option.none : Option Jvm.ClassFile.FieldType)) ∈ lw_all := lw_g (lw_at lw_m2 23 rfl) rfl
theorem q384 : (Jvm.Cond.instanceMethod ({ cls := "StringTableau", name := "truncate", desc := "(I)Z" } : Jvm.MethodName)) ∈ lw_all := lw_g (lw_at lw_m2 25 rfl) rfl
theorem q385 : (Jvm.Cond.selects "StringTableau" ({ cls := "StringTableau", name := "truncate", desc := "(I)Z" } : Jvm.MethodName) ({ cls := "StringTableau", name := "truncate", desc := "(I)Z" } : Jvm.MethodName)) ∈ lw_all := lw_g (lw_at lw_m2 26 rfl) rfl
theorem q386 : (Jvm.Cond.code ({ cls := "StringTableau", name := "truncate", desc := "(I)Z" } : Jvm.MethodName) prog_1_method_18_code (2 : Nat) (Option.some Jvm.ClassFile.FieldType.boolean)) ∈ lw_all := lw_g (lw_at lw_m2 27 rfl) rfl
theorem q387 : (Jvm.Cond.methodLink "StringTableau" (88 : Nat) ({ cls := "StringTableau", name := "inRange", desc := "(III)Z" } : Jvm.MethodName)) ∈ lw_all := lw_g (lw_at lw_m2 28 rfl) rfl
theorem q388 : (Jvm.Cond.static ({ cls := "StringTableau", name := "inRange", desc := "(III)Z" } : Jvm.MethodName)) ∈ lw_all := lw_g (lw_at lw_m2 29 rfl) rfl
theorem q389 : (Jvm.Cond.code ({ cls := "StringTableau", name := "inRange", desc := "(III)Z" } : Jvm.MethodName) prog_1_method_2_code (3 : Nat) (Option.some Jvm.ClassFile.FieldType.boolean)) ∈ lw_all := lw_g (lw_at lw_m2 30 rfl) rfl
theorem q391 : (Jvm.Cond.instanceMethod ({ cls := "StringTableau", name := "parse", desc := "()I" } : Jvm.MethodName)) ∈ lw_all := lw_g (lw_at lw_m2 32 rfl) rfl
theorem q392 : (Jvm.Cond.selects "StringTableau" ({ cls := "StringTableau", name := "parse", desc := "()I" } : Jvm.MethodName) ({ cls := "StringTableau", name := "parse", desc := "()I" } : Jvm.MethodName)) ∈ lw_all := lw_g (lw_at lw_m2 33 rfl) rfl
theorem q393 : (Jvm.Cond.codeWith ({ cls := "StringTableau", name := "parse", desc := "()I" } : Jvm.MethodName) prog_1_method_19_code (4 : Nat) (Option.some Jvm.ClassFile.FieldType.int) [((10 : Nat), (60 : Nat), (67 : Nat), (152 : Nat)), ((10 : Nat), (60 : Nat), (93 : Nat), (0 : Nat)), ((67 : Nat), (86 : Nat), (93 : Nat), (0 : Nat))]) ∈ lw_all := lw_g (lw_at lw_m2 34 rfl) rfl
theorem q394 : (Jvm.Cond.classLink "StringTableau" (152 : Nat) "StringTableau$ParseException") ∈ lw_all := lw_g (lw_at lw_m2 35 rfl) rfl
theorem q395 : (Jvm.Cond.classLink "StringTableau" (129 : Nat) "StringTableau$Parser") ∈ lw_all := lw_g (lw_at lw_m2 36 rfl) rfl
theorem q397 : (Jvm.Cond.methodLink "StringTableau" (131 : Nat) ({ cls := "StringTableau$Parser", name := "<init>", desc := "(LStringTableau;)V" } : Jvm.MethodName)) ∈ lw_all := lw_g (lw_at lw_m2 38 rfl) rfl
theorem q723 : (Jvm.Cond.fieldLinkNest "StringTableau" (137 : Nat) "StringTableau$Parser" "operations" "Ljava/util/List;" "StringTableau") ∈ lw_tbl := lw_at lw_m3 124 rfl
theorem q757 : (Jvm.Cond.methodLink "StringTableau" (134 : Nat) ({ cls := "StringTableau$Parser", name := "parse", desc := "()LStringTableau$State;" } : Jvm.MethodName)) ∈ lw_all := lw_g (lw_at lw_m3 158 rfl) rfl
theorem q797 : (Jvm.Cond.fieldLinkNest "StringTableau" (154 : Nat) "StringTableau$ParseException" "code" "I" "StringTableau") ∈ lw_tbl := lw_at lw_m3 198 rfl
theorem q799 : (Jvm.Cond.fieldLinkNest "StringTableau" (157 : Nat) "StringTableau$ParseException" "offset" "I" "StringTableau") ∈ lw_tbl := lw_at lw_m3 200 rfl
theorem q1002 : (Jvm.Cond.fieldLinkNest "StringTableau" (194 : Nat) "StringTableau$Operation" "kind" "I" "StringTableau") ∈ lw_tbl := lw_at lw_m4 163 rfl
theorem q1045 : (Jvm.Cond.selects "StringTableau" ({ cls := "java/lang/Object", name := "getClass", desc := "()Ljava/lang/Class;" } : Jvm.MethodName) ({ cls := "java/lang/Object", name := "getClass", desc := "()Ljava/lang/Class;" } : Jvm.MethodName)) ∈ lw_all := lw_g (lw_at lw_m4 206 rfl) rfl
theorem q1090 : (Jvm.Cond.static ({ cls := "StringTableau", name := "isDouble", desc := "(I)Z" } : Jvm.MethodName)) ∈ lw_all := lw_g (lw_at lw_m5 11 rfl) rfl
theorem q1091 : (Jvm.Cond.code ({ cls := "StringTableau", name := "isDouble", desc := "(I)Z" } : Jvm.MethodName) prog_1_method_12_code (1 : Nat) (Option.some Jvm.ClassFile.FieldType.boolean)) ∈ lw_all := lw_g (lw_at lw_m5 12 rfl) rfl
theorem q1115 : (Jvm.Cond.methodLink "StringTableau" (140 : Nat) ({ cls := "java/util/ArrayDeque", name := "clear", desc := "()V" } : Jvm.MethodName)) ∈ lw_all := lw_g (lw_at lw_m5 36 rfl) rfl
theorem q1122 : (Jvm.Cond.methodLink "StringTableau" (143 : Nat) ({ cls := "java/util/Arrays", name := "fill", desc := "([Ljava/lang/Object;Ljava/lang/Object;)V" } : Jvm.MethodName)) ∈ lw_all := lw_g (lw_at lw_m5 43 rfl) rfl
theorem q1125 : (Jvm.Cond.interfaceEntry "StringTableau" (149 : Nat)) ∈ lw_tbl := lw_at lw_m5 46 rfl
theorem q1126 : (Jvm.Cond.methodLink "StringTableau" (149 : Nat) ({ cls := "java/util/List", name := "size", desc := "()I" } : Jvm.MethodName)) ∈ lw_all := lw_g (lw_at lw_m5 47 rfl) rfl
theorem q1128 : (Jvm.Cond.instanceMethod ({ cls := "StringTableau", name := "errorCode", desc := "()I" } : Jvm.MethodName)) ∈ lw_all := lw_g (lw_at lw_m5 49 rfl) rfl
theorem q1129 : (Jvm.Cond.selects "StringTableau" ({ cls := "StringTableau", name := "errorCode", desc := "()I" } : Jvm.MethodName) ({ cls := "StringTableau", name := "errorCode", desc := "()I" } : Jvm.MethodName)) ∈ lw_all := lw_g (lw_at lw_m5 50 rfl) rfl
theorem q1130 : (Jvm.Cond.code ({ cls := "StringTableau", name := "errorCode", desc := "()I" } : Jvm.MethodName) prog_1_method_20_code (1 : Nat) (Option.some Jvm.ClassFile.FieldType.int)) ∈ lw_all := lw_g (lw_at lw_m5 51 rfl) rfl
theorem q1132 : (Jvm.Cond.instanceMethod ({ cls := "StringTableau", name := "errorOffset", desc := "()I" } : Jvm.MethodName)) ∈ lw_all := lw_g (lw_at lw_m5 53 rfl) rfl
theorem q1133 : (Jvm.Cond.selects "StringTableau" ({ cls := "StringTableau", name := "errorOffset", desc := "()I" } : Jvm.MethodName) ({ cls := "StringTableau", name := "errorOffset", desc := "()I" } : Jvm.MethodName)) ∈ lw_all := lw_g (lw_at lw_m5 54 rfl) rfl
theorem q1134 : (Jvm.Cond.code ({ cls := "StringTableau", name := "errorOffset", desc := "()I" } : Jvm.MethodName) prog_1_method_21_code (1 : Nat) (Option.some Jvm.ClassFile.FieldType.int)) ∈ lw_all := lw_g (lw_at lw_m5 55 rfl) rfl
theorem q1136 : (Jvm.Cond.instanceMethod ({ cls := "StringTableau", name := "count", desc := "(I)I" } : Jvm.MethodName)) ∈ lw_all := lw_g (lw_at lw_m5 57 rfl) rfl
theorem q1137 : (Jvm.Cond.selects "StringTableau" ({ cls := "StringTableau", name := "count", desc := "(I)I" } : Jvm.MethodName) ({ cls := "StringTableau", name := "count", desc := "(I)I" } : Jvm.MethodName)) ∈ lw_all := lw_g (lw_at lw_m5 58 rfl) rfl
theorem q1138 : (Jvm.Cond.code ({ cls := "StringTableau", name := "count", desc := "(I)I" } : Jvm.MethodName) prog_1_method_23_code (2 : Nat) (Option.some Jvm.ClassFile.FieldType.int)) ∈ lw_all := lw_g (lw_at lw_m5 59 rfl) rfl
theorem q1139 : (Jvm.Cond.methodLink "StringTableau" (173 : Nat) ({ cls := "StringTableau", name := "qubits", desc := "()I" } : Jvm.MethodName)) ∈ lw_all := lw_g (lw_at lw_m5 60 rfl) rfl
theorem q1140 : (Jvm.Cond.privateMethod ({ cls := "StringTableau", name := "qubits", desc := "()I" } : Jvm.MethodName)) ∈ lw_tbl := lw_at lw_m5 61 rfl
theorem q1141 : (Jvm.Cond.instanceMethod ({ cls := "StringTableau", name := "qubits", desc := "()I" } : Jvm.MethodName)) ∈ lw_all := lw_g (lw_at lw_m5 62 rfl) rfl
theorem q1142 : (Jvm.Cond.code ({ cls := "StringTableau", name := "qubits", desc := "()I" } : Jvm.MethodName) prog_1_method_14_code (1 : Nat) (Option.some Jvm.ClassFile.FieldType.int)) ∈ lw_all := lw_g (lw_at lw_m5 63 rfl) rfl
theorem q1143 : (Jvm.Cond.methodLink "StringTableau" (179 : Nat) ({ cls := "StringTableau", name := "randomOnes", desc := "()I" } : Jvm.MethodName)) ∈ lw_all := lw_g (lw_at lw_m5 64 rfl) rfl
theorem q1144 : (Jvm.Cond.privateMethod ({ cls := "StringTableau", name := "randomOnes", desc := "()I" } : Jvm.MethodName)) ∈ lw_tbl := lw_at lw_m5 65 rfl
theorem q1145 : (Jvm.Cond.instanceMethod ({ cls := "StringTableau", name := "randomOnes", desc := "()I" } : Jvm.MethodName)) ∈ lw_all := lw_g (lw_at lw_m5 66 rfl) rfl
theorem q1146 : (Jvm.Cond.code ({ cls := "StringTableau", name := "randomOnes", desc := "()I" } : Jvm.MethodName) prog_1_method_22_code (3 : Nat) (Option.some Jvm.ClassFile.FieldType.int)) ∈ lw_all := lw_g (lw_at lw_m5 67 rfl) rfl
theorem q1147 : (Jvm.Cond.interfaceEntry "StringTableau" (163 : Nat)) ∈ lw_tbl := lw_at lw_m5 68 rfl
theorem q1148 : (Jvm.Cond.methodLink "StringTableau" (163 : Nat) ({ cls := "java/util/List", name := "get", desc := "(I)Ljava/lang/Object;" } : Jvm.MethodName)) ∈ lw_all := lw_g (lw_at lw_m5 69 rfl) rfl
theorem q1164 : (Jvm.Cond.classLink "StringTableau" (167 : Nat) "StringTableau$Record") ∈ lw_all := lw_g (lw_at lw_m5 85 rfl) rfl
theorem q1165 : (Jvm.Cond.methodLink "StringTableau" (103 : Nat) ({ cls := "java/util/ArrayDeque", name := "size", desc := "()I" } : Jvm.MethodName)) ∈ lw_all := lw_g (lw_at lw_m5 86 rfl) rfl
theorem q1173 : (Jvm.Cond.instanceMethod ({ cls := "StringTableau", name := "step", desc := "()I" } : Jvm.MethodName)) ∈ lw_all := lw_g (lw_at lw_m5 94 rfl) rfl
theorem q1174 : (Jvm.Cond.selects "StringTableau" ({ cls := "StringTableau", name := "step", desc := "()I" } : Jvm.MethodName) ({ cls := "StringTableau", name := "step", desc := "()I" } : Jvm.MethodName)) ∈ lw_all := lw_g (lw_at lw_m5 95 rfl) rfl
theorem q1175 : (Jvm.Cond.code ({ cls := "StringTableau", name := "step", desc := "()I" } : Jvm.MethodName) prog_1_method_32_code (1 : Nat) (Option.some Jvm.ClassFile.FieldType.int)) ∈ lw_all := lw_g (lw_at lw_m5 96 rfl) rfl
theorem q1176 : (Jvm.Cond.methodLink "StringTableau" (247 : Nat) ({ cls := "StringTableau", name := "canStep", desc := "()Z" } : Jvm.MethodName)) ∈ lw_all := lw_g (lw_at lw_m5 97 rfl) rfl
theorem q1177 : (Jvm.Cond.privateMethod ({ cls := "StringTableau", name := "canStep", desc := "()Z" } : Jvm.MethodName)) ∈ lw_tbl := lw_at lw_m5 98 rfl
theorem q1178 : (Jvm.Cond.instanceMethod ({ cls := "StringTableau", name := "canStep", desc := "()Z" } : Jvm.MethodName)) ∈ lw_all := lw_g (lw_at lw_m5 99 rfl) rfl
theorem q1179 : (Jvm.Cond.code ({ cls := "StringTableau", name := "canStep", desc := "()Z" } : Jvm.MethodName) prog_1_method_30_code (1 : Nat) (Option.some Jvm.ClassFile.FieldType.boolean)) ∈ lw_all := lw_g (lw_at lw_m5 100 rfl) rfl
theorem q1180 : (Jvm.Cond.classLink "StringTableau" (192 : Nat) "StringTableau$Operation") ∈ lw_all := lw_g (lw_at lw_m5 101 rfl) rfl
theorem q1181 : (Jvm.Cond.methodLink "StringTableau" (240 : Nat) ({ cls := "StringTableau$Operation", name := "isPossible", desc := "()Z" } : Jvm.MethodName)) ∈ lw_all := lw_g (lw_at lw_m5 102 rfl) rfl
theorem q1207 : (Jvm.Cond.static ({ cls := "StringTableau", name := "doCommute", desc := "(IIII)Z" } : Jvm.MethodName)) ∈ lw_all := lw_g (lw_at lw_m5 128 rfl) rfl
theorem q1208 : (Jvm.Cond.code ({ cls := "StringTableau", name := "doCommute", desc := "(IIII)Z" } : Jvm.MethodName) prog_1_method_9_code (4 : Nat) (Option.some Jvm.ClassFile.FieldType.boolean)) ∈ lw_all := lw_g (lw_at lw_m5 129 rfl) rfl
theorem q1209 : (Jvm.Cond.methodLink "StringTableau" (70 : Nat) ({ cls := "java/lang/Integer", name := "bitCount", desc := "(I)I" } : Jvm.MethodName)) ∈ lw_all := lw_g (lw_at lw_m5 130 rfl) rfl
theorem q1224 : (Jvm.Cond.static ({ cls := "StringTableau", name := "has", desc := "(II)Z" } : Jvm.MethodName)) ∈ lw_all := lw_g (lw_at lw_m5 145 rfl) rfl
theorem q1225 : (Jvm.Cond.code ({ cls := "StringTableau", name := "has", desc := "(II)Z" } : Jvm.MethodName) prog_1_method_6_code (2 : Nat) (Option.some Jvm.ClassFile.FieldType.boolean)) ∈ lw_all := lw_g (lw_at lw_m5 146 rfl) rfl
theorem q1235 : (Jvm.Cond.static ({ cls := "StringTableau", name := "phaseOf", desc := "(IIII)I" } : Jvm.MethodName)) ∈ lw_all := lw_g (lw_at lw_m5 156 rfl) rfl
theorem q1236 : (Jvm.Cond.code ({ cls := "StringTableau", name := "phaseOf", desc := "(IIII)I" } : Jvm.MethodName) prog_1_method_8_code (8 : Nat) (Option.some Jvm.ClassFile.FieldType.int)) ∈ lw_all := lw_g (lw_at lw_m5 157 rfl) rfl
theorem q1237 : (Jvm.Cond.methodLink "StringTableau" (66 : Nat) ({ cls := "StringTableau", name := "letterOf", desc := "(III)I" } : Jvm.MethodName)) ∈ lw_all := lw_g (lw_at lw_m5 158 rfl) rfl
theorem q1238 : (Jvm.Cond.static ({ cls := "StringTableau", name := "letterOf", desc := "(III)I" } : Jvm.MethodName)) ∈ lw_all := lw_g (lw_at lw_m5 159 rfl) rfl
theorem q1239 : (Jvm.Cond.code ({ cls := "StringTableau", name := "letterOf", desc := "(III)I" } : Jvm.MethodName) prog_1_method_7_code (3 : Nat) (Option.some Jvm.ClassFile.FieldType.int)) ∈ lw_all := lw_g (lw_at lw_m5 160 rfl) rfl
theorem q1240 : (Jvm.Cond.methodLink "StringTableau" (62 : Nat) ({ cls := "StringTableau", name := "has", desc := "(II)Z" } : Jvm.MethodName)) ∈ lw_all := lw_g (lw_at lw_m5 161 rfl) rfl
theorem q1243 : (Jvm.Cond.methodLink "StringTableau" (210 : Nat) ({ cls := "StringTableau", name := "remember", desc := "()V" } : Jvm.MethodName)) ∈ lw_all := lw_g (lw_at lw_m5 164 rfl) rfl
theorem q1244 : (Jvm.Cond.privateMethod ({ cls := "StringTableau", name := "remember", desc := "()V" } : Jvm.MethodName)) ∈ lw_tbl := lw_at lw_m5 165 rfl
theorem q1245 : (Jvm.Cond.instanceMethod ({ cls := "StringTableau", name := "remember", desc := "()V" } : Jvm.MethodName)) ∈ lw_all := lw_g (lw_at lw_m5 166 rfl) rfl
theorem q1246 : (Jvm.Cond.code ({ cls := "StringTableau", name := "remember", desc := "()V" } : Jvm.MethodName) prog_1_method_15_code (1 : Nat) (Option.none : Option Jvm.ClassFile.FieldType)) ∈ lw_all := lw_g (lw_at lw_m5 167 rfl) rfl
theorem q1247 : (Jvm.Cond.methodLink "StringTableau" (107 : Nat) ({ cls := "java/util/ArrayDeque", name := "removeFirst", desc := "()Ljava/lang/Object;" } : Jvm.MethodName)) ∈ lw_all := lw_g (lw_at lw_m5 168 rfl) rfl
theorem q1261 : (Jvm.Cond.methodLink "StringTableau" (111 : Nat) ({ cls := "java/util/ArrayDeque", name := "addLast", desc := "(Ljava/lang/Object;)V" } : Jvm.MethodName)) ∈ lw_all := lw_g (lw_at lw_m5 182 rfl) rfl
theorem q1293 : (Jvm.Cond.methodLink "StringTableau" (115 : Nat) ({ cls := "StringTableau$State", name := "copy", desc := "()LStringTableau$State;" } : Jvm.MethodName)) ∈ lw_all := lw_g (lw_at lw_m5 214 rfl) rfl
theorem q1458 : (Jvm.Cond.methodLink "StringTableau" (250 : Nat) ({ cls := "StringTableau", name := "executeNext", desc := "()Z" } : Jvm.MethodName)) ∈ lw_all := lw_g (lw_at lw_m6 139 rfl) rfl
theorem q1459 : (Jvm.Cond.privateMethod ({ cls := "StringTableau", name := "executeNext", desc := "()Z" } : Jvm.MethodName)) ∈ lw_tbl := lw_at lw_m6 140 rfl
theorem q1460 : (Jvm.Cond.instanceMethod ({ cls := "StringTableau", name := "executeNext", desc := "()Z" } : Jvm.MethodName)) ∈ lw_all := lw_g (lw_at lw_m6 141 rfl) rfl
theorem q1461 : (Jvm.Cond.code ({ cls := "StringTableau", name := "executeNext", desc := "()Z" } : Jvm.MethodName) prog_1_method_31_code (2 : Nat) (Option.some Jvm.ClassFile.FieldType.boolean)) ∈ lw_all := lw_g (lw_at lw_m6 142 rfl) rfl
theorem q1462 : (Jvm.Cond.methodLink "StringTableau" (244 : Nat) ({ cls := "StringTableau$Operation", name := "execute", desc := "()Z" } : Jvm.MethodName)) ∈ lw_all := lw_g (lw_at lw_m6 143 rfl) rfl
theorem q1481 : (Jvm.Cond.static ({ cls := "StringTableau", name := "gateOf", desc := "(I)LStringTableau$Gate;" } : Jvm.MethodName)) ∈ lw_all := lw_g (lw_at lw_m6 162 rfl) rfl
theorem q1482 : (Jvm.Cond.code ({ cls := "StringTableau", name := "gateOf", desc := "(I)LStringTableau$Gate;" } : Jvm.MethodName) prog_1_method_10_code (1 : Nat) (Option.some (Jvm.ClassFile.FieldType.object "StringTableau$Gate"))) ∈ lw_all := lw_g (lw_at lw_m6 163 rfl) rfl
theorem q1483 : (Jvm.Cond.static ({ cls := "StringTableau", name := "lambda$gateOf$0", desc := "(LStringTableau$Row;II)V" } : Jvm.MethodName)) ∈ lw_all := lw_g (lw_at lw_m6 164 rfl) rfl
theorem q1484 : (Jvm.Cond.code ({ cls := "StringTableau", name := "lambda$gateOf$0", desc := "(LStringTableau$Row;II)V" } : Jvm.MethodName) prog_1_method_89_code (3 : Nat) (Option.none : Option Jvm.ClassFile.FieldType)) ∈ lw_all := lw_g (lw_at lw_m6 165 rfl) rfl
theorem q1485 : (Jvm.Cond.methodLink "StringTableau" (476 : Nat) ({ cls := "StringTableau$Row", name := "h", desc := "(I)V" } : Jvm.MethodName)) ∈ lw_all := lw_g (lw_at lw_m6 166 rfl) rfl
theorem q1510 : (Jvm.Cond.static ({ cls := "StringTableau", name := "lambda$gateOf$1", desc := "(LStringTableau$Row;II)V" } : Jvm.MethodName)) ∈ lw_all := lw_g (lw_at lw_m6 191 rfl) rfl
theorem q1511 : (Jvm.Cond.code ({ cls := "StringTableau", name := "lambda$gateOf$1", desc := "(LStringTableau$Row;II)V" } : Jvm.MethodName) prog_1_method_88_code (3 : Nat) (Option.none : Option Jvm.ClassFile.FieldType)) ∈ lw_all := lw_g (lw_at lw_m6 192 rfl) rfl
theorem q1512 : (Jvm.Cond.methodLink "StringTableau" (472 : Nat) ({ cls := "StringTableau$Row", name := "turn", desc := "(IZ)V" } : Jvm.MethodName)) ∈ lw_all := lw_g (lw_at lw_m6 193 rfl) rfl
theorem q1516 : (Jvm.Cond.static ({ cls := "StringTableau", name := "lambda$gateOf$2", desc := "(LStringTableau$Row;II)V" } : Jvm.MethodName)) ∈ lw_all := lw_g (lw_at lw_m6 197 rfl) rfl
theorem q1517 : (Jvm.Cond.code ({ cls := "StringTableau", name := "lambda$gateOf$2", desc := "(LStringTableau$Row;II)V" } : Jvm.MethodName) prog_1_method_87_code (3 : Nat) (Option.none : Option Jvm.ClassFile.FieldType)) ∈ lw_all := lw_g (lw_at lw_m6 198 rfl) rfl
theorem q1518 : (Jvm.Cond.static ({ cls := "StringTableau", name := "lambda$gateOf$3", desc := "(LStringTableau$Row;II)V" } : Jvm.MethodName)) ∈ lw_all := lw_g (lw_at lw_m6 199 rfl) rfl
theorem q1519 : (Jvm.Cond.code ({ cls := "StringTableau", name := "lambda$gateOf$3", desc := "(LStringTableau$Row;II)V" } : Jvm.MethodName) prog_1_method_86_code (3 : Nat) (Option.none : Option Jvm.ClassFile.FieldType)) ∈ lw_all := lw_g (lw_at lw_m6 200 rfl) rfl
theorem q1520 : (Jvm.Cond.methodLinkNest "StringTableau" (469 : Nat) ({ cls := "StringTableau$Row", name := "hasZ", desc := "(I)Z" } : Jvm.MethodName) "StringTableau") ∈ lw_tbl := lw_at lw_m6 201 rfl
theorem q1521 : (Jvm.Cond.methodLink "StringTableau" (466 : Nat) ({ cls := "StringTableau$Row", name := "flipIf", desc := "(Z)V" } : Jvm.MethodName)) ∈ lw_all := lw_g (lw_at lw_m6 202 rfl) rfl
theorem q1522 : (Jvm.Cond.static ({ cls := "StringTableau", name := "lambda$gateOf$4", desc := "(LStringTableau$Row;II)V" } : Jvm.MethodName)) ∈ lw_all := lw_g (lw_at lw_m6 203 rfl) rfl
theorem q1523 : (Jvm.Cond.code ({ cls := "StringTableau", name := "lambda$gateOf$4", desc := "(LStringTableau$Row;II)V" } : Jvm.MethodName) prog_1_method_85_code (3 : Nat) (Option.none : Option Jvm.ClassFile.FieldType)) ∈ lw_all := lw_g (lw_at lw_m6 204 rfl) rfl
theorem q1524 : (Jvm.Cond.methodLinkNest "StringTableau" (463 : Nat) ({ cls := "StringTableau$Row", name := "hasX", desc := "(I)Z" } : Jvm.MethodName) "StringTableau") ∈ lw_tbl := lw_at lw_m6 205 rfl
theorem q1525 : (Jvm.Cond.static ({ cls := "StringTableau", name := "lambda$gateOf$5", desc := "(LStringTableau$Row;II)V" } : Jvm.MethodName)) ∈ lw_all := lw_g (lw_at lw_m6 206 rfl) rfl
theorem q1526 : (Jvm.Cond.code ({ cls := "StringTableau", name := "lambda$gateOf$5", desc := "(LStringTableau$Row;II)V" } : Jvm.MethodName) prog_1_method_84_code (3 : Nat) (Option.none : Option Jvm.ClassFile.FieldType)) ∈ lw_all := lw_g (lw_at lw_m6 207 rfl) rfl
theorem q1527 : (Jvm.Cond.static ({ cls := "StringTableau", name := "lambda$gateOf$6", desc := "(LStringTableau$Row;II)V" } : Jvm.MethodName)) ∈ lw_all := lw_g (lw_at lw_m6 208 rfl) rfl
theorem q1528 : (Jvm.Cond.code ({ cls := "StringTableau", name := "lambda$gateOf$6", desc := "(LStringTableau$Row;II)V" } : Jvm.MethodName) prog_1_method_83_code (3 : Nat) (Option.none : Option Jvm.ClassFile.FieldType)) ∈ lw_all := lw_g (lw_at lw_m6 209 rfl) rfl
theorem q1529 : (Jvm.Cond.methodLink "StringTableau" (461 : Nat) ({ cls := "StringTableau$Row", name := "cx", desc := "(II)V" } : Jvm.MethodName)) ∈ lw_all := lw_g (lw_at lw_m6 210 rfl) rfl
theorem q1533 : (Jvm.Cond.static ({ cls := "StringTableau", name := "lambda$gateOf$7", desc := "(LStringTableau$Row;II)V" } : Jvm.MethodName)) ∈ lw_all := lw_g (lw_at lw_m6 214 rfl) rfl
theorem q1534 : (Jvm.Cond.code ({ cls := "StringTableau", name := "lambda$gateOf$7", desc := "(LStringTableau$Row;II)V" } : Jvm.MethodName) prog_1_method_82_code (3 : Nat) (Option.none : Option Jvm.ClassFile.FieldType)) ∈ lw_all := lw_g (lw_at lw_m6 215 rfl) rfl
theorem q1535 : (Jvm.Cond.methodLink "StringTableau" (459 : Nat) ({ cls := "StringTableau$Row", name := "cz", desc := "(II)V" } : Jvm.MethodName)) ∈ lw_all := lw_g (lw_at lw_m6 216 rfl) rfl
theorem q1539 : (Jvm.Cond.static ({ cls := "StringTableau", name := "lambda$gateOf$8", desc := "(LStringTableau$Row;II)V" } : Jvm.MethodName)) ∈ lw_all := lw_g (lw_at lw_m6 220 rfl) rfl
theorem q1540 : (Jvm.Cond.code ({ cls := "StringTableau", name := "lambda$gateOf$8", desc := "(LStringTableau$Row;II)V" } : Jvm.MethodName) prog_1_method_81_code (3 : Nat) (Option.none : Option Jvm.ClassFile.FieldType)) ∈ lw_all := lw_g (lw_at lw_m6 221 rfl) rfl
theorem q1541 : (Jvm.Cond.methodLink "StringTableau" (457 : Nat) ({ cls := "StringTableau$Row", name := "swap", desc := "(II)V" } : Jvm.MethodName)) ∈ lw_all := lw_g (lw_at lw_m6 222 rfl) rfl
theorem q1583 : (Jvm.Cond.fieldLinkNest "StringTableau" (291 : Nat) "StringTableau$Record" "outcome" "I" "StringTableau") ∈ lw_tbl := lw_at lw_m7 24 rfl
theorem q1585 : (Jvm.Cond.fieldLinkNest "StringTableau" (169 : Nat) "StringTableau$Record" "random" "Z" "StringTableau") ∈ lw_tbl := lw_at lw_m7 26 rfl
theorem q1595 : (Jvm.Cond.instanceMethod ({ cls := "StringTableau", name := "runnable", desc := "()I" } : Jvm.MethodName)) ∈ lw_all := lw_g (lw_at lw_m7 36 rfl) rfl
theorem q1596 : (Jvm.Cond.selects "StringTableau" ({ cls := "StringTableau", name := "runnable", desc := "()I" } : Jvm.MethodName) ({ cls := "StringTableau", name := "runnable", desc := "()I" } : Jvm.MethodName)) ∈ lw_all := lw_g (lw_at lw_m7 37 rfl) rfl
theorem q1597 : (Jvm.Cond.codeWith ({ cls := "StringTableau", name := "runnable", desc := "()I" } : Jvm.MethodName) prog_1_method_34_code (5 : Nat) (Option.some Jvm.ClassFile.FieldType.int) [((16 : Nat), (38 : Nat), (45 : Nat), (0 : Nat)), ((45 : Nat), (47 : Nat), (45 : Nat), (0 : Nat))]) ∈ lw_all := lw_g (lw_at lw_m7 38 rfl) rfl
theorem q1599 : (Jvm.Cond.instanceMethod ({ cls := "StringTableau", name := "makeCanonical", desc := "()I" } : Jvm.MethodName)) ∈ lw_all := lw_g (lw_at lw_m7 40 rfl) rfl
theorem q1600 : (Jvm.Cond.selects "StringTableau" ({ cls := "StringTableau", name := "makeCanonical", desc := "()I" } : Jvm.MethodName) ({ cls := "StringTableau", name := "makeCanonical", desc := "()I" } : Jvm.MethodName)) ∈ lw_all := lw_g (lw_at lw_m7 41 rfl) rfl
theorem q1601 : (Jvm.Cond.code ({ cls := "StringTableau", name := "makeCanonical", desc := "()I" } : Jvm.MethodName) prog_1_method_37_code (1 : Nat) (Option.some Jvm.ClassFile.FieldType.int)) ∈ lw_all := lw_g (lw_at lw_m7 42 rfl) rfl
theorem q1602 : (Jvm.Cond.methodLink "StringTableau" (264 : Nat) ({ cls := "StringTableau$Tableau", name := "canonical", desc := "()LStringTableau$Tableau;" } : Jvm.MethodName)) ∈ lw_all := lw_g (lw_at lw_m7 43 rfl) rfl
theorem q1621 : (Jvm.Cond.methodLink "StringTableau" (268 : Nat) ({ cls := "StringTableau", name := "replaceRows", desc := "(LStringTableau$Tableau;)I" } : Jvm.MethodName)) ∈ lw_all := lw_g (lw_at lw_m7 62 rfl) rfl
theorem q1622 : (Jvm.Cond.privateMethod ({ cls := "StringTableau", name := "replaceRows", desc := "(LStringTableau$Tableau;)I" } : Jvm.MethodName)) ∈ lw_tbl := lw_at lw_m7 63 rfl
theorem q1623 : (Jvm.Cond.instanceMethod ({ cls := "StringTableau", name := "replaceRows", desc := "(LStringTableau$Tableau;)I" } : Jvm.MethodName)) ∈ lw_all := lw_g (lw_at lw_m7 64 rfl) rfl
theorem q1624 : (Jvm.Cond.code ({ cls := "StringTableau", name := "replaceRows", desc := "(LStringTableau$Tableau;)I" } : Jvm.MethodName) prog_1_method_36_code (3 : Nat) (Option.some Jvm.ClassFile.FieldType.int)) ∈ lw_all := lw_g (lw_at lw_m7 65 rfl) rfl
theorem q1625 : (Jvm.Cond.methodLink "StringTableau" (217 : Nat) ({ cls := "StringTableau$Tableau", name := "difference", desc := "(LStringTableau$Tableau;)I" } : Jvm.MethodName)) ∈ lw_all := lw_g (lw_at lw_m7 66 rfl) rfl
theorem q1634 : (Jvm.Cond.instanceMethod ({ cls := "StringTableau", name := "weights", desc := "(I)I" } : Jvm.MethodName)) ∈ lw_all := lw_g (lw_at lw_m7 75 rfl) rfl
theorem q1635 : (Jvm.Cond.selects "StringTableau" ({ cls := "StringTableau", name := "weights", desc := "(I)I" } : Jvm.MethodName) ({ cls := "StringTableau", name := "weights", desc := "(I)I" } : Jvm.MethodName)) ∈ lw_all := lw_g (lw_at lw_m7 76 rfl) rfl
theorem q1636 : (Jvm.Cond.code ({ cls := "StringTableau", name := "weights", desc := "(I)I" } : Jvm.MethodName) prog_1_method_51_code (5 : Nat) (Option.some Jvm.ClassFile.FieldType.int)) ∈ lw_all := lw_g (lw_at lw_m7 77 rfl) rfl
theorem q1637 : (Jvm.Cond.methodLink "StringTableau" (317 : Nat) ({ cls := "StringTableau$Tableau", name := "iterator", desc := "()Ljava/util/Iterator;" } : Jvm.MethodName)) ∈ lw_all := lw_g (lw_at lw_m7 78 rfl) rfl
theorem q1654 : (Jvm.Cond.interfaceEntry "StringTableau" (321 : Nat)) ∈ lw_tbl := lw_at lw_m7 95 rfl
theorem q1655 : (Jvm.Cond.methodLink "StringTableau" (321 : Nat) ({ cls := "java/util/Iterator", name := "hasNext", desc := "()Z" } : Jvm.MethodName)) ∈ lw_all := lw_g (lw_at lw_m7 96 rfl) rfl
theorem q1656 : (Jvm.Cond.interfaceEntry "StringTableau" (326 : Nat)) ∈ lw_tbl := lw_at lw_m7 97 rfl
theorem q1657 : (Jvm.Cond.methodLink "StringTableau" (326 : Nat) ({ cls := "java/util/Iterator", name := "next", desc := "()Ljava/lang/Object;" } : Jvm.MethodName)) ∈ lw_all := lw_g (lw_at lw_m7 98 rfl) rfl
theorem q1658 : (Jvm.Cond.classLink "StringTableau" (224 : Nat) "StringTableau$Row") ∈ lw_all := lw_g (lw_at lw_m7 99 rfl) rfl
theorem q1659 : (Jvm.Cond.methodLink "StringTableau" (329 : Nat) ({ cls := "StringTableau$Row", name := "weight", desc := "()I" } : Jvm.MethodName)) ∈ lw_all := lw_g (lw_at lw_m7 100 rfl) rfl
theorem q1665 : (Jvm.Cond.instanceMethod ({ cls := "StringTableau", name := "freeQubits", desc := "()I" } : Jvm.MethodName)) ∈ lw_all := lw_g (lw_at lw_m7 106 rfl) rfl
theorem q1666 : (Jvm.Cond.selects "StringTableau" ({ cls := "StringTableau", name := "freeQubits", desc := "()I" } : Jvm.MethodName) ({ cls := "StringTableau", name := "freeQubits", desc := "()I" } : Jvm.MethodName)) ∈ lw_all := lw_g (lw_at lw_m7 107 rfl) rfl
theorem q1667 : (Jvm.Cond.code ({ cls := "StringTableau", name := "freeQubits", desc := "()I" } : Jvm.MethodName) prog_1_method_60_code (4 : Nat) (Option.some Jvm.ClassFile.FieldType.int)) ∈ lw_all := lw_g (lw_at lw_m7 108 rfl) rfl
theorem q1668 : (Jvm.Cond.methodLink "StringTableau" (350 : Nat) ({ cls := "StringTableau$Tableau", name := "supports", desc := "()[I" } : Jvm.MethodName)) ∈ lw_all := lw_g (lw_at lw_m7 109 rfl) rfl
theorem q1677 : (Jvm.Cond.methodLink "StringTableau" (354 : Nat) ({ cls := "StringTableau", name := "entropyBy", desc := "([II)I" } : Jvm.MethodName)) ∈ lw_all := lw_g (lw_at lw_m7 118 rfl) rfl
theorem q1678 : (Jvm.Cond.static ({ cls := "StringTableau", name := "entropyBy", desc := "([II)I" } : Jvm.MethodName)) ∈ lw_all := lw_g (lw_at lw_m7 119 rfl) rfl
theorem q1679 : (Jvm.Cond.code ({ cls := "StringTableau", name := "entropyBy", desc := "([II)I" } : Jvm.MethodName) prog_1_method_13_code (7 : Nat) (Option.some Jvm.ClassFile.FieldType.int)) ∈ lw_all := lw_g (lw_at lw_m7 120 rfl) rfl
theorem q1680 : (Jvm.Cond.methodLink "StringTableau" (92 : Nat) ({ cls := "java/lang/Integer", name := "numberOfTrailingZeros", desc := "(I)I" } : Jvm.MethodName)) ∈ lw_all := lw_g (lw_at lw_m7 121 rfl) rfl
theorem q1682 : (Jvm.Cond.instanceMethod ({ cls := "StringTableau", name := "spread", desc := "()I" } : Jvm.MethodName)) ∈ lw_all := lw_g (lw_at lw_m7 123 rfl) rfl
theorem q1683 : (Jvm.Cond.selects "StringTableau" ({ cls := "StringTableau", name := "spread", desc := "()I" } : Jvm.MethodName) ({ cls := "StringTableau", name := "spread", desc := "()I" } : Jvm.MethodName)) ∈ lw_all := lw_g (lw_at lw_m7 124 rfl) rfl
theorem q1684 : (Jvm.Cond.code ({ cls := "StringTableau", name := "spread", desc := "()I" } : Jvm.MethodName) prog_1_method_65_code (6 : Nat) (Option.some Jvm.ClassFile.FieldType.int)) ∈ lw_all := lw_g (lw_at lw_m7 125 rfl) rfl
theorem q1686 : (Jvm.Cond.instanceMethod ({ cls := "StringTableau", name := "possible", desc := "(I)I" } : Jvm.MethodName)) ∈ lw_all := lw_g (lw_at lw_m7 127 rfl) rfl
theorem q1687 : (Jvm.Cond.selects "StringTableau" ({ cls := "StringTableau", name := "possible", desc := "(I)I" } : Jvm.MethodName) ({ cls := "StringTableau", name := "possible", desc := "(I)I" } : Jvm.MethodName)) ∈ lw_all := lw_g (lw_at lw_m7 128 rfl) rfl
theorem q1688 : (Jvm.Cond.code ({ cls := "StringTableau", name := "possible", desc := "(I)I" } : Jvm.MethodName) prog_1_method_68_code (5 : Nat) (Option.some Jvm.ClassFile.FieldType.int)) ∈ lw_all := lw_g (lw_at lw_m7 129 rfl) rfl
theorem q1689 : (Jvm.Cond.methodLink "StringTableau" (361 : Nat) ({ cls := "StringTableau", name := "agrees", desc := "(LStringTableau$Tableau;I)Z" } : Jvm.MethodName)) ∈ lw_all := lw_g (lw_at lw_m7 130 rfl) rfl
theorem q1690 : (Jvm.Cond.static ({ cls := "StringTableau", name := "agrees", desc := "(LStringTableau$Tableau;I)Z" } : Jvm.MethodName)) ∈ lw_all := lw_g (lw_at lw_m7 131 rfl) rfl
theorem q1691 : (Jvm.Cond.code ({ cls := "StringTableau", name := "agrees", desc := "(LStringTableau$Tableau;I)Z" } : Jvm.MethodName) prog_1_method_66_code (6 : Nat) (Option.some Jvm.ClassFile.FieldType.boolean)) ∈ lw_all := lw_g (lw_at lw_m7 132 rfl) rfl
theorem q1693 : (Jvm.Cond.instanceMethod ({ cls := "StringTableau", name := "print", desc := "(Z)I" } : Jvm.MethodName)) ∈ lw_all := lw_g (lw_at lw_m7 134 rfl) rfl
theorem q1694 : (Jvm.Cond.selects "StringTableau" ({ cls := "StringTableau", name := "print", desc := "(Z)I" } : Jvm.MethodName) ({ cls := "StringTableau", name := "print", desc := "(Z)I" } : Jvm.MethodName)) ∈ lw_all := lw_g (lw_at lw_m7 135 rfl) rfl
theorem q1695 : (Jvm.Cond.code ({ cls := "StringTableau", name := "print", desc := "(Z)I" } : Jvm.MethodName) prog_1_method_76_code (7 : Nat) (Option.some Jvm.ClassFile.FieldType.int)) ∈ lw_all := lw_g (lw_at lw_m7 136 rfl) rfl
theorem q1696 : (Jvm.Cond.methodLink "StringTableau" (403 : Nat) ({ cls := "java/lang/StringBuilder", name := "setLength", desc := "(I)V" } : Jvm.MethodName)) ∈ lw_all := lw_g (lw_at lw_m7 137 rfl) rfl
theorem q1764 : (Jvm.Cond.methodLink "StringTableau" (406 : Nat) ({ cls := "StringTableau$Row", name := "write", desc := "(Ljava/lang/StringBuilder;I)V" } : Jvm.MethodName)) ∈ lw_all := lw_g (lw_at lw_m7 205 rfl) rfl
theorem q1772 : (Jvm.Cond.methodLink "StringTableau" (410 : Nat) ({ cls := "java/lang/StringBuilder", name := "length", desc := "()I" } : Jvm.MethodName)) ∈ lw_all := lw_g (lw_at lw_m7 213 rfl) rfl
theorem q1774 : (Jvm.Cond.instanceMethod ({ cls := "StringTableau", name := "printProgram", desc := "()I" } : Jvm.MethodName)) ∈ lw_all := lw_g (lw_at lw_m7 215 rfl) rfl
theorem q1775 : (Jvm.Cond.selects "StringTableau" ({ cls := "StringTableau", name := "printProgram", desc := "()I" } : Jvm.MethodName) ({ cls := "StringTableau", name := "printProgram", desc := "()I" } : Jvm.MethodName)) ∈ lw_all := lw_g (lw_at lw_m7 216 rfl) rfl
theorem q1776 : (Jvm.Cond.code ({ cls := "StringTableau", name := "printProgram", desc := "()I" } : Jvm.MethodName) prog_1_method_79_code (2 : Nat) (Option.some Jvm.ClassFile.FieldType.int)) ∈ lw_all := lw_g (lw_at lw_m7 217 rfl) rfl
theorem q1777 : (Jvm.Cond.methodLink "StringTableau" (452 : Nat) ({ cls := "StringTableau", name := "writeOperation", desc := "(LStringTableau$Operation;)V" } : Jvm.MethodName)) ∈ lw_all := lw_g (lw_at lw_m7 218 rfl) rfl
theorem q1778 : (Jvm.Cond.privateMethod ({ cls := "StringTableau", name := "writeOperation", desc := "(LStringTableau$Operation;)V" } : Jvm.MethodName)) ∈ lw_tbl := lw_at lw_m7 219 rfl
theorem q1779 : (Jvm.Cond.instanceMethod ({ cls := "StringTableau", name := "writeOperation", desc := "(LStringTableau$Operation;)V" } : Jvm.MethodName)) ∈ lw_all := lw_g (lw_at lw_m7 220 rfl) rfl
theorem q1780 : (Jvm.Cond.code ({ cls := "StringTableau", name := "writeOperation", desc := "(LStringTableau$Operation;)V" } : Jvm.MethodName) prog_1_method_78_code (3 : Nat) (Option.none : Option Jvm.ClassFile.FieldType)) ∈ lw_all := lw_g (lw_at lw_m7 221 rfl) rfl
theorem q1781 : (Jvm.Cond.methodLink "StringTableau" (197 : Nat) ({ cls := "StringTableau$Operation", name := "property", desc := "(I)I" } : Jvm.MethodName)) ∈ lw_all := lw_g (lw_at lw_m7 222 rfl) rfl
theorem q1794 : (Jvm.Cond.stringRef "StringTableau" (429 : Nat) "when ") ∈ lw_tbl := lw_at lw_m7 235 rfl
theorem q1795 : (Jvm.Cond.methodLink "StringTableau" (431 : Nat) ({ cls := "java/lang/StringBuilder", name := "append", desc := "(Ljava/lang/String;)Ljava/lang/StringBuilder;" } : Jvm.MethodName)) ∈ lw_all := lw_g (lw_at lw_m7 236 rfl) rfl
theorem q1796 : (Jvm.Cond.methodLink "StringTableau" (434 : Nat) ({ cls := "java/lang/StringBuilder", name := "append", desc := "(I)Ljava/lang/StringBuilder;" } : Jvm.MethodName)) ∈ lw_all := lw_g (lw_at lw_m7 237 rfl) rfl
theorem q1797 : (Jvm.Cond.methodLink "StringTableau" (437 : Nat) ({ cls := "java/lang/StringBuilder", name := "append", desc := "(C)Ljava/lang/StringBuilder;" } : Jvm.MethodName)) ∈ lw_all := lw_g (lw_at lw_m7 238 rfl) rfl
theorem q1798 : (Jvm.Cond.methodLink "StringTableau" (440 : Nat) ({ cls := "StringTableau", name := "nameOf", desc := "(I)Ljava/lang/String;" } : Jvm.MethodName)) ∈ lw_all := lw_g (lw_at lw_m7 239 rfl) rfl
theorem q1799 : (Jvm.Cond.static ({ cls := "StringTableau", name := "nameOf", desc := "(I)Ljava/lang/String;" } : Jvm.MethodName)) ∈ lw_all := lw_g (lw_at lw_m8 0 rfl) rfl
theorem q1800 : (Jvm.Cond.code ({ cls := "StringTableau", name := "nameOf", desc := "(I)Ljava/lang/String;" } : Jvm.MethodName) prog_1_method_77_code (1 : Nat) (Option.some (Jvm.ClassFile.FieldType.object "java/lang/String"))) ∈ lw_all := lw_g (lw_at lw_m8 1 rfl) rfl
theorem q1801 : (Jvm.Cond.stringRef "StringTableau" (412 : Nat) "h") ∈ lw_tbl := lw_at lw_m8 2 rfl
theorem q1802 : (Jvm.Cond.stringRef "StringTableau" (414 : Nat) "s") ∈ lw_tbl := lw_at lw_m8 3 rfl
theorem q1803 : (Jvm.Cond.stringRef "StringTableau" (416 : Nat) "sdg") ∈ lw_tbl := lw_at lw_m8 4 rfl
theorem q1804 : (Jvm.Cond.stringRef "StringTableau" (418 : Nat) "x") ∈ lw_tbl := lw_at lw_m8 5 rfl
theorem q1805 : (Jvm.Cond.stringRef "StringTableau" (419 : Nat) "y") ∈ lw_tbl := lw_at lw_m8 6 rfl
theorem q1806 : (Jvm.Cond.stringRef "StringTableau" (421 : Nat) "z") ∈ lw_tbl := lw_at lw_m8 7 rfl
theorem q1807 : (Jvm.Cond.stringRef "StringTableau" (422 : Nat) "cx") ∈ lw_tbl := lw_at lw_m8 8 rfl
theorem q1808 : (Jvm.Cond.stringRef "StringTableau" (424 : Nat) "cz") ∈ lw_tbl := lw_at lw_m8 9 rfl
theorem q1809 : (Jvm.Cond.stringRef "StringTableau" (426 : Nat) "swap") ∈ lw_tbl := lw_at lw_m8 10 rfl
theorem q1810 : (Jvm.Cond.stringRef "StringTableau" (428 : Nat) "measure") ∈ lw_tbl := lw_at lw_m8 11 rfl
theorem q1811 : (Jvm.Cond.stringRef "StringTableau" (444 : Nat) "IXYZ") ∈ lw_tbl := lw_at lw_m8 12 rfl
theorem q1812 : (Jvm.Cond.methodLink "StringTableau" (446 : Nat) ({ cls := "java/lang/String", name := "charAt", desc := "(I)C" } : Jvm.MethodName)) ∈ lw_all := lw_g (lw_at lw_m8 13 rfl) rfl
theorem q1814 : (Jvm.Cond.instanceMethod ({ cls := "StringTableau", name := "outputByte", desc := "(I)I" } : Jvm.MethodName)) ∈ lw_all := lw_g (lw_at lw_m8 15 rfl) rfl
theorem q1815 : (Jvm.Cond.selects "StringTableau" ({ cls := "StringTableau", name := "outputByte", desc := "(I)I" } : Jvm.MethodName) ({ cls := "StringTableau", name := "outputByte", desc := "(I)I" } : Jvm.MethodName)) ∈ lw_all := lw_g (lw_at lw_m8 16 rfl) rfl
theorem q1816 : (Jvm.Cond.code ({ cls := "StringTableau", name := "outputByte", desc := "(I)I" } : Jvm.MethodName) prog_1_method_80_code (2 : Nat) (Option.some Jvm.ClassFile.FieldType.int)) ∈ lw_all := lw_g (lw_at lw_m8 17 rfl) rfl
theorem q1817 : (Jvm.Cond.methodLink "StringTableau" (456 : Nat) ({ cls := "java/lang/StringBuilder", name := "charAt", desc := "(I)C" } : Jvm.MethodName)) ∈ lw_all := lw_g (lw_at lw_m8 18 rfl) rfl
theorem q1834 : (Jvm.Cond.instanceMethod ({ cls := "StringTableau", name := "operation", desc := "(II)I" } : Jvm.MethodName)) ∈ lw_all := lw_g (lw_at lw_m8 35 rfl) rfl
theorem q1835 : (Jvm.Cond.selects "StringTableau" ({ cls := "StringTableau", name := "operation", desc := "(II)I" } : Jvm.MethodName) ({ cls := "StringTableau", name := "operation", desc := "(II)I" } : Jvm.MethodName)) ∈ lw_all := lw_g (lw_at lw_m8 36 rfl) rfl
theorem q1836 : (Jvm.Cond.code ({ cls := "StringTableau", name := "operation", desc := "(II)I" } : Jvm.MethodName) prog_1_method_24_code (4 : Nat) (Option.some Jvm.ClassFile.FieldType.int)) ∈ lw_all := lw_g (lw_at lw_m8 37 rfl) rfl
theorem q1837 : (Jvm.Cond.methodLink "StringTableau" (188 : Nat) ({ cls := "StringTableau", name := "checkIndex", desc := "(Z)V" } : Jvm.MethodName)) ∈ lw_all := lw_g (lw_at lw_m8 38 rfl) rfl
theorem q1838 : (Jvm.Cond.static ({ cls := "StringTableau", name := "checkIndex", desc := "(Z)V" } : Jvm.MethodName)) ∈ lw_all := lw_g (lw_at lw_m8 39 rfl) rfl
theorem q1839 : (Jvm.Cond.code ({ cls := "StringTableau", name := "checkIndex", desc := "(Z)V" } : Jvm.MethodName) prog_1_method_3_code (1 : Nat) (Option.none : Option Jvm.ClassFile.FieldType)) ∈ lw_all := lw_g (lw_at lw_m8 40 rfl) rfl
theorem q1840 : (Jvm.Cond.classLink "StringTableau" (53 : Nat) "java/lang/IndexOutOfBoundsException") ∈ lw_all := lw_g (lw_at lw_m8 41 rfl) rfl
theorem q1849 : (Jvm.Cond.methodLink "StringTableau" (55 : Nat) ({ cls := "java/lang/IndexOutOfBoundsException", name := "<init>", desc := "()V" } : Jvm.MethodName)) ∈ lw_all := lw_g (lw_at lw_m8 50 rfl) rfl
theorem q1860 : (Jvm.Cond.instanceMethod ({ cls := "StringTableau", name := "gate", desc := "(III)I" } : Jvm.MethodName)) ∈ lw_all := lw_g (lw_at lw_m8 61 rfl) rfl
theorem q1861 : (Jvm.Cond.selects "StringTableau" ({ cls := "StringTableau", name := "gate", desc := "(III)I" } : Jvm.MethodName) ({ cls := "StringTableau", name := "gate", desc := "(III)I" } : Jvm.MethodName)) ∈ lw_all := lw_g (lw_at lw_m8 62 rfl) rfl
theorem q1862 : (Jvm.Cond.code ({ cls := "StringTableau", name := "gate", desc := "(III)I" } : Jvm.MethodName) prog_1_method_27_code (5 : Nat) (Option.some Jvm.ClassFile.FieldType.int)) ∈ lw_all := lw_g (lw_at lw_m8 63 rfl) rfl
theorem q1863 : (Jvm.Cond.methodLink "StringTableau" (203 : Nat) ({ cls := "StringTableau", name := "checkQubit", desc := "(I)V" } : Jvm.MethodName)) ∈ lw_all := lw_g (lw_at lw_m8 64 rfl) rfl
theorem q1864 : (Jvm.Cond.privateMethod ({ cls := "StringTableau", name := "checkQubit", desc := "(I)V" } : Jvm.MethodName)) ∈ lw_tbl := lw_at lw_m8 65 rfl
theorem q1865 : (Jvm.Cond.instanceMethod ({ cls := "StringTableau", name := "checkQubit", desc := "(I)V" } : Jvm.MethodName)) ∈ lw_all := lw_g (lw_at lw_m8 66 rfl) rfl
theorem q1866 : (Jvm.Cond.code ({ cls := "StringTableau", name := "checkQubit", desc := "(I)V" } : Jvm.MethodName) prog_1_method_25_code (2 : Nat) (Option.none : Option Jvm.ClassFile.FieldType)) ∈ lw_all := lw_g (lw_at lw_m8 67 rfl) rfl
theorem q1867 : (Jvm.Cond.methodLink "StringTableau" (206 : Nat) ({ cls := "StringTableau", name := "isDouble", desc := "(I)Z" } : Jvm.MethodName)) ∈ lw_all := lw_g (lw_at lw_m8 68 rfl) rfl
theorem q1868 : (Jvm.Cond.methodLink "StringTableau" (200 : Nat) ({ cls := "StringTableau", name := "checkArgument", desc := "(Z)V" } : Jvm.MethodName)) ∈ lw_all := lw_g (lw_at lw_m8 69 rfl) rfl
theorem q1869 : (Jvm.Cond.static ({ cls := "StringTableau", name := "checkArgument", desc := "(Z)V" } : Jvm.MethodName)) ∈ lw_all := lw_g (lw_at lw_m8 70 rfl) rfl
theorem q1870 : (Jvm.Cond.code ({ cls := "StringTableau", name := "checkArgument", desc := "(Z)V" } : Jvm.MethodName) prog_1_method_4_code (1 : Nat) (Option.none : Option Jvm.ClassFile.FieldType)) ∈ lw_all := lw_g (lw_at lw_m8 71 rfl) rfl
theorem q1871 : (Jvm.Cond.classLink "StringTableau" (56 : Nat) "java/lang/IllegalArgumentException") ∈ lw_all := lw_g (lw_at lw_m8 72 rfl) rfl
theorem q1872 : (Jvm.Cond.methodLink "StringTableau" (58 : Nat) ({ cls := "java/lang/IllegalArgumentException", name := "<init>", desc := "()V" } : Jvm.MethodName)) ∈ lw_all := lw_g (lw_at lw_m8 73 rfl) rfl
theorem q1876 : (Jvm.Cond.methodLink "StringTableau" (213 : Nat) ({ cls := "StringTableau$State", name := "gateOnTrail", desc := "(III)V" } : Jvm.MethodName)) ∈ lw_all := lw_g (lw_at lw_m8 77 rfl) rfl
theorem q1882 : (Jvm.Cond.instanceMethod ({ cls := "StringTableau", name := "measure", desc := "(IIZI)I" } : Jvm.MethodName)) ∈ lw_all := lw_g (lw_at lw_m8 83 rfl) rfl
theorem q1883 : (Jvm.Cond.selects "StringTableau" ({ cls := "StringTableau", name := "measure", desc := "(IIZI)I" } : Jvm.MethodName) ({ cls := "StringTableau", name := "measure", desc := "(IIZI)I" } : Jvm.MethodName)) ∈ lw_all := lw_g (lw_at lw_m8 84 rfl) rfl
theorem q1884 : (Jvm.Cond.code ({ cls := "StringTableau", name := "measure", desc := "(IIZI)I" } : Jvm.MethodName) prog_1_method_28_code (6 : Nat) (Option.some Jvm.ClassFile.FieldType.int)) ∈ lw_all := lw_g (lw_at lw_m8 85 rfl) rfl
theorem q1885 : (Jvm.Cond.methodLink "StringTableau" (221 : Nat) ({ cls := "StringTableau", name := "checkMasks", desc := "(II)V" } : Jvm.MethodName)) ∈ lw_all := lw_g (lw_at lw_m8 86 rfl) rfl
theorem q1886 : (Jvm.Cond.privateMethod ({ cls := "StringTableau", name := "checkMasks", desc := "(II)V" } : Jvm.MethodName)) ∈ lw_tbl := lw_at lw_m8 87 rfl
theorem q1887 : (Jvm.Cond.instanceMethod ({ cls := "StringTableau", name := "checkMasks", desc := "(II)V" } : Jvm.MethodName)) ∈ lw_all := lw_g (lw_at lw_m8 88 rfl) rfl
theorem q1888 : (Jvm.Cond.code ({ cls := "StringTableau", name := "checkMasks", desc := "(II)V" } : Jvm.MethodName) prog_1_method_26_code (3 : Nat) (Option.none : Option Jvm.ClassFile.FieldType)) ∈ lw_all := lw_g (lw_at lw_m8 89 rfl) rfl
theorem q1889 : (Jvm.Cond.methodLink "StringTableau" (226 : Nat) ({ cls := "StringTableau$Row", name := "<init>", desc := "(IIZ)V" } : Jvm.MethodName)) ∈ lw_all := lw_g (lw_at lw_m8 90 rfl) rfl
theorem q1890 : (Jvm.Cond.methodLink "StringTableau" (229 : Nat) ({ cls := "StringTableau$State", name := "canMeasure", desc := "(LStringTableau$Row;I)Z" } : Jvm.MethodName)) ∈ lw_all := lw_g (lw_at lw_m8 91 rfl) rfl
theorem q1891 : (Jvm.Cond.methodLink "StringTableau" (233 : Nat) ({ cls := "StringTableau", name := "checkState", desc := "(Z)V" } : Jvm.MethodName)) ∈ lw_all := lw_g (lw_at lw_m8 92 rfl) rfl
theorem q1892 : (Jvm.Cond.static ({ cls := "StringTableau", name := "checkState", desc := "(Z)V" } : Jvm.MethodName)) ∈ lw_all := lw_g (lw_at lw_m8 93 rfl) rfl
theorem q1893 : (Jvm.Cond.code ({ cls := "StringTableau", name := "checkState", desc := "(Z)V" } : Jvm.MethodName) prog_1_method_5_code (1 : Nat) (Option.none : Option Jvm.ClassFile.FieldType)) ∈ lw_all := lw_g (lw_at lw_m8 94 rfl) rfl
theorem q1894 : (Jvm.Cond.classLink "StringTableau" (59 : Nat) "java/lang/IllegalStateException") ∈ lw_all := lw_g (lw_at lw_m8 95 rfl) rfl
theorem q1895 : (Jvm.Cond.methodLink "StringTableau" (61 : Nat) ({ cls := "java/lang/IllegalStateException", name := "<init>", desc := "()V" } : Jvm.MethodName)) ∈ lw_all := lw_g (lw_at lw_m8 96 rfl) rfl
theorem q1899 : (Jvm.Cond.methodLink "StringTableau" (236 : Nat) ({ cls := "StringTableau$State", name := "measure", desc := "(LStringTableau$Row;I)I" } : Jvm.MethodName)) ∈ lw_all := lw_g (lw_at lw_m8 100 rfl) rfl
theorem q1904 : (Jvm.Cond.instanceMethod ({ cls := "StringTableau", name := "measureAll", desc := "()I" } : Jvm.MethodName)) ∈ lw_all := lw_g (lw_at lw_m8 105 rfl) rfl
theorem q1905 : (Jvm.Cond.selects "StringTableau" ({ cls := "StringTableau", name := "measureAll", desc := "()I" } : Jvm.MethodName) ({ cls := "StringTableau", name := "measureAll", desc := "()I" } : Jvm.MethodName)) ∈ lw_all := lw_g (lw_at lw_m8 106 rfl) rfl
theorem q1906 : (Jvm.Cond.code ({ cls := "StringTableau", name := "measureAll", desc := "()I" } : Jvm.MethodName) prog_1_method_29_code (3 : Nat) (Option.some Jvm.ClassFile.FieldType.int)) ∈ lw_all := lw_g (lw_at lw_m8 107 rfl) rfl
theorem q1911 : (Jvm.Cond.instanceMethod ({ cls := "StringTableau", name := "run", desc := "(I)I" } : Jvm.MethodName)) ∈ lw_all := lw_g (lw_at lw_m8 112 rfl) rfl
theorem q1912 : (Jvm.Cond.selects "StringTableau" ({ cls := "StringTableau", name := "run", desc := "(I)I" } : Jvm.MethodName) ({ cls := "StringTableau", name := "run", desc := "(I)I" } : Jvm.MethodName)) ∈ lw_all := lw_g (lw_at lw_m8 113 rfl) rfl
theorem q1913 : (Jvm.Cond.code ({ cls := "StringTableau", name := "run", desc := "(I)I" } : Jvm.MethodName) prog_1_method_33_code (3 : Nat) (Option.some Jvm.ClassFile.FieldType.int)) ∈ lw_all := lw_g (lw_at lw_m8 114 rfl) rfl
theorem q1918 : (Jvm.Cond.instanceMethod ({ cls := "StringTableau", name := "reverse", desc := "(I)I" } : Jvm.MethodName)) ∈ lw_all := lw_g (lw_at lw_m8 119 rfl) rfl
theorem q1919 : (Jvm.Cond.selects "StringTableau" ({ cls := "StringTableau", name := "reverse", desc := "(I)I" } : Jvm.MethodName) ({ cls := "StringTableau", name := "reverse", desc := "(I)I" } : Jvm.MethodName)) ∈ lw_all := lw_g (lw_at lw_m8 120 rfl) rfl
theorem q1920 : (Jvm.Cond.code ({ cls := "StringTableau", name := "reverse", desc := "(I)I" } : Jvm.MethodName) prog_1_method_35_code (4 : Nat) (Option.some Jvm.ClassFile.FieldType.int)) ∈ lw_all := lw_g (lw_at lw_m8 121 rfl) rfl
theorem q1921 : (Jvm.Cond.methodLink "StringTableau" (253 : Nat) ({ cls := "java/util/ArrayDeque", name := "removeLast", desc := "()Ljava/lang/Object;" } : Jvm.MethodName)) ∈ lw_all := lw_g (lw_at lw_m8 122 rfl) rfl
theorem q1932 : (Jvm.Cond.classLink "StringTableau" (256 : Nat) "[I") ∈ lw_all := lw_g (lw_at lw_m8 133 rfl) rfl
theorem q1933 : (Jvm.Cond.methodLink "StringTableau" (258 : Nat) ({ cls := "StringTableau", name := "inverseOf", desc := "(I)I" } : Jvm.MethodName)) ∈ lw_all := lw_g (lw_at lw_m8 134 rfl) rfl
theorem q1934 : (Jvm.Cond.static ({ cls := "StringTableau", name := "inverseOf", desc := "(I)I" } : Jvm.MethodName)) ∈ lw_all := lw_g (lw_at lw_m8 135 rfl) rfl
theorem q1935 : (Jvm.Cond.code ({ cls := "StringTableau", name := "inverseOf", desc := "(I)I" } : Jvm.MethodName) prog_1_method_11_code (1 : Nat) (Option.some Jvm.ClassFile.FieldType.int)) ∈ lw_all := lw_g (lw_at lw_m8 136 rfl) rfl
theorem q1936 : (Jvm.Cond.methodLink "StringTableau" (261 : Nat) ({ cls := "StringTableau$State", name := "gate", desc := "(III)V" } : Jvm.MethodName)) ∈ lw_all := lw_g (lw_at lw_m8 137 rfl) rfl
theorem q1941 : (Jvm.Cond.instanceMethod ({ cls := "StringTableau", name := "goBack", desc := "(I)I" } : Jvm.MethodName)) ∈ lw_all := lw_g (lw_at lw_m8 142 rfl) rfl
theorem q1942 : (Jvm.Cond.selects "StringTableau" ({ cls := "StringTableau", name := "goBack", desc := "(I)I" } : Jvm.MethodName) ({ cls := "StringTableau", name := "goBack", desc := "(I)I" } : Jvm.MethodName)) ∈ lw_all := lw_g (lw_at lw_m8 143 rfl) rfl
theorem q1943 : (Jvm.Cond.code ({ cls := "StringTableau", name := "goBack", desc := "(I)I" } : Jvm.MethodName) prog_1_method_38_code (3 : Nat) (Option.some Jvm.ClassFile.FieldType.int)) ∈ lw_all := lw_g (lw_at lw_m8 144 rfl) rfl
theorem q1944 : (Jvm.Cond.methodLink "StringTableau" (271 : Nat) ({ cls := "StringTableau", name := "kept", desc := "(I)LStringTableau$Tableau;" } : Jvm.MethodName)) ∈ lw_all := lw_g (lw_at lw_m8 145 rfl) rfl
theorem q1945 : (Jvm.Cond.privateMethod ({ cls := "StringTableau", name := "kept", desc := "(I)LStringTableau$Tableau;" } : Jvm.MethodName)) ∈ lw_tbl := lw_at lw_m8 146 rfl
theorem q1946 : (Jvm.Cond.instanceMethod ({ cls := "StringTableau", name := "kept", desc := "(I)LStringTableau$Tableau;" } : Jvm.MethodName)) ∈ lw_all := lw_g (lw_at lw_m8 147 rfl) rfl
theorem q1947 : (Jvm.Cond.code ({ cls := "StringTableau", name := "kept", desc := "(I)LStringTableau$Tableau;" } : Jvm.MethodName) prog_1_method_69_code (2 : Nat) (Option.some (Jvm.ClassFile.FieldType.object "StringTableau$Tableau"))) ∈ lw_all := lw_g (lw_at lw_m8 148 rfl) rfl
theorem q1948 : (Jvm.Cond.methodLink "StringTableau" (275 : Nat) ({ cls := "StringTableau$Tableau", name := "copy", desc := "()LStringTableau$Tableau;" } : Jvm.MethodName)) ∈ lw_all := lw_g (lw_at lw_m8 149 rfl) rfl
theorem q1953 : (Jvm.Cond.instanceMethod ({ cls := "StringTableau", name := "undo", desc := "()I" } : Jvm.MethodName)) ∈ lw_all := lw_g (lw_at lw_m8 154 rfl) rfl
theorem q1954 : (Jvm.Cond.selects "StringTableau" ({ cls := "StringTableau", name := "undo", desc := "()I" } : Jvm.MethodName) ({ cls := "StringTableau", name := "undo", desc := "()I" } : Jvm.MethodName)) ∈ lw_all := lw_g (lw_at lw_m8 155 rfl) rfl
theorem q1955 : (Jvm.Cond.code ({ cls := "StringTableau", name := "undo", desc := "()I" } : Jvm.MethodName) prog_1_method_39_code (1 : Nat) (Option.some Jvm.ClassFile.FieldType.int)) ∈ lw_all := lw_g (lw_at lw_m8 156 rfl) rfl
theorem q1956 : (Jvm.Cond.methodLink "StringTableau" (277 : Nat) ({ cls := "java/util/ArrayDeque", name := "isEmpty", desc := "()Z" } : Jvm.MethodName)) ∈ lw_all := lw_g (lw_at lw_m8 157 rfl) rfl
theorem q1964 : (Jvm.Cond.instanceMethod ({ cls := "StringTableau", name := "letter", desc := "(II)I" } : Jvm.MethodName)) ∈ lw_all := lw_g (lw_at lw_m8 165 rfl) rfl
theorem q1965 : (Jvm.Cond.selects "StringTableau" ({ cls := "StringTableau", name := "letter", desc := "(II)I" } : Jvm.MethodName) ({ cls := "StringTableau", name := "letter", desc := "(II)I" } : Jvm.MethodName)) ∈ lw_all := lw_g (lw_at lw_m8 166 rfl) rfl
theorem q1966 : (Jvm.Cond.code ({ cls := "StringTableau", name := "letter", desc := "(II)I" } : Jvm.MethodName) prog_1_method_40_code (4 : Nat) (Option.some Jvm.ClassFile.FieldType.int)) ∈ lw_all := lw_g (lw_at lw_m8 167 rfl) rfl
theorem q1971 : (Jvm.Cond.instanceMethod ({ cls := "StringTableau", name := "row", desc := "(II)I" } : Jvm.MethodName)) ∈ lw_all := lw_g (lw_at lw_m8 172 rfl) rfl
theorem q1972 : (Jvm.Cond.selects "StringTableau" ({ cls := "StringTableau", name := "row", desc := "(II)I" } : Jvm.MethodName) ({ cls := "StringTableau", name := "row", desc := "(II)I" } : Jvm.MethodName)) ∈ lw_all := lw_g (lw_at lw_m8 173 rfl) rfl
theorem q1973 : (Jvm.Cond.code ({ cls := "StringTableau", name := "row", desc := "(II)I" } : Jvm.MethodName) prog_1_method_42_code (3 : Nat) (Option.some Jvm.ClassFile.FieldType.int)) ∈ lw_all := lw_g (lw_at lw_m8 174 rfl) rfl
theorem q1974 : (Jvm.Cond.methodLink "StringTableau" (287 : Nat) ({ cls := "StringTableau", name := "propertyOf", desc := "(LStringTableau$Tableau;II)I" } : Jvm.MethodName)) ∈ lw_all := lw_g (lw_at lw_m8 175 rfl) rfl
theorem q1975 : (Jvm.Cond.privateMethod ({ cls := "StringTableau", name := "propertyOf", desc := "(LStringTableau$Tableau;II)I" } : Jvm.MethodName)) ∈ lw_tbl := lw_at lw_m8 176 rfl
theorem q1976 : (Jvm.Cond.instanceMethod ({ cls := "StringTableau", name := "propertyOf", desc := "(LStringTableau$Tableau;II)I" } : Jvm.MethodName)) ∈ lw_all := lw_g (lw_at lw_m8 177 rfl) rfl
theorem q1977 : (Jvm.Cond.code ({ cls := "StringTableau", name := "propertyOf", desc := "(LStringTableau$Tableau;II)I" } : Jvm.MethodName) prog_1_method_41_code (4 : Nat) (Option.some Jvm.ClassFile.FieldType.int)) ∈ lw_all := lw_g (lw_at lw_m8 178 rfl) rfl
theorem q1978 : (Jvm.Cond.methodLink "StringTableau" (286 : Nat) ({ cls := "StringTableau$Row", name := "property", desc := "(I)I" } : Jvm.MethodName)) ∈ lw_all := lw_g (lw_at lw_m8 179 rfl) rfl
theorem q1990 : (Jvm.Cond.instanceMethod ({ cls := "StringTableau", name := "canonical", desc := "(II)I" } : Jvm.MethodName)) ∈ lw_all := lw_g (lw_at lw_m8 191 rfl) rfl
theorem q1991 : (Jvm.Cond.selects "StringTableau" ({ cls := "StringTableau", name := "canonical", desc := "(II)I" } : Jvm.MethodName) ({ cls := "StringTableau", name := "canonical", desc := "(II)I" } : Jvm.MethodName)) ∈ lw_all := lw_g (lw_at lw_m8 192 rfl) rfl
theorem q1992 : (Jvm.Cond.code ({ cls := "StringTableau", name := "canonical", desc := "(II)I" } : Jvm.MethodName) prog_1_method_43_code (3 : Nat) (Option.some Jvm.ClassFile.FieldType.int)) ∈ lw_all := lw_g (lw_at lw_m8 193 rfl) rfl
theorem q1997 : (Jvm.Cond.instanceMethod ({ cls := "StringTableau", name := "measured", desc := "(II)I" } : Jvm.MethodName)) ∈ lw_all := lw_g (lw_at lw_m8 198 rfl) rfl
theorem q1998 : (Jvm.Cond.selects "StringTableau" ({ cls := "StringTableau", name := "measured", desc := "(II)I" } : Jvm.MethodName) ({ cls := "StringTableau", name := "measured", desc := "(II)I" } : Jvm.MethodName)) ∈ lw_all := lw_g (lw_at lw_m8 199 rfl) rfl
theorem q1999 : (Jvm.Cond.code ({ cls := "StringTableau", name := "measured", desc := "(II)I" } : Jvm.MethodName) prog_1_method_44_code (4 : Nat) (Option.some Jvm.ClassFile.FieldType.int)) ∈ lw_all := lw_g (lw_at lw_m8 200 rfl) rfl
theorem q2004 : (Jvm.Cond.instanceMethod ({ cls := "StringTableau", name := "commute", desc := "(IIII)Z" } : Jvm.MethodName)) ∈ lw_all := lw_g (lw_at lw_m8 205 rfl) rfl
theorem q2005 : (Jvm.Cond.selects "StringTableau" ({ cls := "StringTableau", name := "commute", desc := "(IIII)Z" } : Jvm.MethodName) ({ cls := "StringTableau", name := "commute", desc := "(IIII)Z" } : Jvm.MethodName)) ∈ lw_all := lw_g (lw_at lw_m8 206 rfl) rfl
theorem q2006 : (Jvm.Cond.code ({ cls := "StringTableau", name := "commute", desc := "(IIII)Z" } : Jvm.MethodName) prog_1_method_45_code (5 : Nat) (Option.some Jvm.ClassFile.FieldType.boolean)) ∈ lw_all := lw_g (lw_at lw_m8 207 rfl) rfl
theorem q2007 : (Jvm.Cond.methodLink "StringTableau" (294 : Nat) ({ cls := "StringTableau", name := "doCommute", desc := "(IIII)Z" } : Jvm.MethodName)) ∈ lw_all := lw_g (lw_at lw_m8 208 rfl) rfl
theorem q2012 : (Jvm.Cond.instanceMethod ({ cls := "StringTableau", name := "phase", desc := "(IIII)I" } : Jvm.MethodName)) ∈ lw_all := lw_g (lw_at lw_m8 213 rfl) rfl
theorem q2013 : (Jvm.Cond.selects "StringTableau" ({ cls := "StringTableau", name := "phase", desc := "(IIII)I" } : Jvm.MethodName) ({ cls := "StringTableau", name := "phase", desc := "(IIII)I" } : Jvm.MethodName)) ∈ lw_all := lw_g (lw_at lw_m8 214 rfl) rfl
theorem q2014 : (Jvm.Cond.code ({ cls := "StringTableau", name := "phase", desc := "(IIII)I" } : Jvm.MethodName) prog_1_method_46_code (5 : Nat) (Option.some Jvm.ClassFile.FieldType.int)) ∈ lw_all := lw_g (lw_at lw_m8 215 rfl) rfl
theorem q2015 : (Jvm.Cond.methodLink "StringTableau" (298 : Nat) ({ cls := "StringTableau", name := "phaseOf", desc := "(IIII)I" } : Jvm.MethodName)) ∈ lw_all := lw_g (lw_at lw_m8 216 rfl) rfl
theorem q2020 : (Jvm.Cond.instanceMethod ({ cls := "StringTableau", name := "against", desc := "(II)I" } : Jvm.MethodName)) ∈ lw_all := lw_g (lw_at lw_m8 221 rfl) rfl
theorem q2021 : (Jvm.Cond.selects "StringTableau" ({ cls := "StringTableau", name := "against", desc := "(II)I" } : Jvm.MethodName) ({ cls := "StringTableau", name := "against", desc := "(II)I" } : Jvm.MethodName)) ∈ lw_all := lw_g (lw_at lw_m8 222 rfl) rfl
theorem q2022 : (Jvm.Cond.code ({ cls := "StringTableau", name := "against", desc := "(II)I" } : Jvm.MethodName) prog_1_method_47_code (3 : Nat) (Option.some Jvm.ClassFile.FieldType.int)) ∈ lw_all := lw_g (lw_at lw_m8 223 rfl) rfl
theorem q2023 : (Jvm.Cond.methodLink "StringTableau" (302 : Nat) ({ cls := "StringTableau$Tableau", name := "against", desc := "(II)I" } : Jvm.MethodName)) ∈ lw_all := lw_g (lw_at lw_m8 224 rfl) rfl
theorem q2028 : (Jvm.Cond.instanceMethod ({ cls := "StringTableau", name := "expectation", desc := "(II)I" } : Jvm.MethodName)) ∈ lw_all := lw_g (lw_at lw_m8 229 rfl) rfl
theorem q2029 : (Jvm.Cond.selects "StringTableau" ({ cls := "StringTableau", name := "expectation", desc := "(II)I" } : Jvm.MethodName) ({ cls := "StringTableau", name := "expectation", desc := "(II)I" } : Jvm.MethodName)) ∈ lw_all := lw_g (lw_at lw_m8 230 rfl) rfl
theorem q2030 : (Jvm.Cond.code ({ cls := "StringTableau", name := "expectation", desc := "(II)I" } : Jvm.MethodName) prog_1_method_48_code (3 : Nat) (Option.some Jvm.ClassFile.FieldType.int)) ∈ lw_all := lw_g (lw_at lw_m8 231 rfl) rfl
theorem q2031 : (Jvm.Cond.methodLink "StringTableau" (306 : Nat) ({ cls := "StringTableau$State", name := "determined", desc := "(LStringTableau$Row;)I" } : Jvm.MethodName)) ∈ lw_all := lw_g (lw_at lw_m8 232 rfl) rfl
theorem q2036 : (Jvm.Cond.instanceMethod ({ cls := "StringTableau", name := "decompose", desc := "(II)I" } : Jvm.MethodName)) ∈ lw_all := lw_g (lw_at lw_m8 237 rfl) rfl
theorem q2037 : (Jvm.Cond.selects "StringTableau" ({ cls := "StringTableau", name := "decompose", desc := "(II)I" } : Jvm.MethodName) ({ cls := "StringTableau", name := "decompose", desc := "(II)I" } : Jvm.MethodName)) ∈ lw_all := lw_g (lw_at lw_m8 238 rfl) rfl
theorem q2038 : (Jvm.Cond.code ({ cls := "StringTableau", name := "decompose", desc := "(II)I" } : Jvm.MethodName) prog_1_method_49_code (3 : Nat) (Option.some Jvm.ClassFile.FieldType.int)) ∈ lw_all := lw_g (lw_at lw_m8 239 rfl) rfl
theorem q2039 : (Jvm.Cond.methodLink "StringTableau" (310 : Nat) ({ cls := "StringTableau$Tableau", name := "decompose", desc := "(II)I" } : Jvm.MethodName)) ∈ lw_all := lw_g (lw_at lw_m9 0 rfl) rfl
theorem q2044 : (Jvm.Cond.instanceMethod ({ cls := "StringTableau", name := "element", desc := "(II)I" } : Jvm.MethodName)) ∈ lw_all := lw_g (lw_at lw_m9 5 rfl) rfl
theorem q2045 : (Jvm.Cond.selects "StringTableau" ({ cls := "StringTableau", name := "element", desc := "(II)I" } : Jvm.MethodName) ({ cls := "StringTableau", name := "element", desc := "(II)I" } : Jvm.MethodName)) ∈ lw_all := lw_g (lw_at lw_m9 6 rfl) rfl
theorem q2046 : (Jvm.Cond.code ({ cls := "StringTableau", name := "element", desc := "(II)I" } : Jvm.MethodName) prog_1_method_50_code (3 : Nat) (Option.some Jvm.ClassFile.FieldType.int)) ∈ lw_all := lw_g (lw_at lw_m9 7 rfl) rfl
theorem q2047 : (Jvm.Cond.methodLink "StringTableau" (313 : Nat) ({ cls := "StringTableau$Tableau", name := "element", desc := "(I)LStringTableau$Row;" } : Jvm.MethodName)) ∈ lw_all := lw_g (lw_at lw_m9 8 rfl) rfl
theorem q2052 : (Jvm.Cond.instanceMethod ({ cls := "StringTableau", name := "lightest", desc := "(I)I" } : Jvm.MethodName)) ∈ lw_all := lw_g (lw_at lw_m9 13 rfl) rfl
theorem q2053 : (Jvm.Cond.selects "StringTableau" ({ cls := "StringTableau", name := "lightest", desc := "(I)I" } : Jvm.MethodName) ({ cls := "StringTableau", name := "lightest", desc := "(I)I" } : Jvm.MethodName)) ∈ lw_all := lw_g (lw_at lw_m9 14 rfl) rfl
theorem q2054 : (Jvm.Cond.code ({ cls := "StringTableau", name := "lightest", desc := "(I)I" } : Jvm.MethodName) prog_1_method_53_code (5 : Nat) (Option.some Jvm.ClassFile.FieldType.int)) ∈ lw_all := lw_g (lw_at lw_m9 15 rfl) rfl
theorem q2055 : (Jvm.Cond.methodLink "StringTableau" (332 : Nat) ({ cls := "StringTableau", name := "isLighter", desc := "(LStringTableau$Row;LStringTableau$Row;)Z" } : Jvm.MethodName)) ∈ lw_all := lw_g (lw_at lw_m9 16 rfl) rfl
theorem q2056 : (Jvm.Cond.static ({ cls := "StringTableau", name := "isLighter", desc := "(LStringTableau$Row;LStringTableau$Row;)Z" } : Jvm.MethodName)) ∈ lw_all := lw_g (lw_at lw_m9 17 rfl) rfl
theorem q2057 : (Jvm.Cond.code ({ cls := "StringTableau", name := "isLighter", desc := "(LStringTableau$Row;LStringTableau$Row;)Z" } : Jvm.MethodName) prog_1_method_52_code (2 : Nat) (Option.some Jvm.ClassFile.FieldType.boolean)) ∈ lw_all := lw_g (lw_at lw_m9 18 rfl) rfl
theorem q2062 : (Jvm.Cond.instanceMethod ({ cls := "StringTableau", name := "pushed", desc := "(IIIII)I" } : Jvm.MethodName)) ∈ lw_all := lw_g (lw_at lw_m9 23 rfl) rfl
theorem q2063 : (Jvm.Cond.selects "StringTableau" ({ cls := "StringTableau", name := "pushed", desc := "(IIIII)I" } : Jvm.MethodName) ({ cls := "StringTableau", name := "pushed", desc := "(IIIII)I" } : Jvm.MethodName)) ∈ lw_all := lw_g (lw_at lw_m9 24 rfl) rfl
theorem q2064 : (Jvm.Cond.code ({ cls := "StringTableau", name := "pushed", desc := "(IIIII)I" } : Jvm.MethodName) prog_1_method_57_code (6 : Nat) (Option.some Jvm.ClassFile.FieldType.int)) ∈ lw_all := lw_g (lw_at lw_m9 25 rfl) rfl
theorem q2065 : (Jvm.Cond.methodLink "StringTableau" (342 : Nat) ({ cls := "StringTableau", name := "checkMove", desc := "(IIIII)V" } : Jvm.MethodName)) ∈ lw_all := lw_g (lw_at lw_m9 26 rfl) rfl
theorem q2066 : (Jvm.Cond.privateMethod ({ cls := "StringTableau", name := "checkMove", desc := "(IIIII)V" } : Jvm.MethodName)) ∈ lw_tbl := lw_at lw_m9 27 rfl
theorem q2067 : (Jvm.Cond.instanceMethod ({ cls := "StringTableau", name := "checkMove", desc := "(IIIII)V" } : Jvm.MethodName)) ∈ lw_all := lw_g (lw_at lw_m9 28 rfl) rfl
theorem q2068 : (Jvm.Cond.code ({ cls := "StringTableau", name := "checkMove", desc := "(IIIII)V" } : Jvm.MethodName) prog_1_method_55_code (6 : Nat) (Option.none : Option Jvm.ClassFile.FieldType)) ∈ lw_all := lw_g (lw_at lw_m9 29 rfl) rfl
theorem q2069 : (Jvm.Cond.methodLink "StringTableau" (346 : Nat) ({ cls := "StringTableau", name := "moved", desc := "(IIIIZ)LStringTableau$Row;" } : Jvm.MethodName)) ∈ lw_all := lw_g (lw_at lw_m9 30 rfl) rfl
theorem q2070 : (Jvm.Cond.privateMethod ({ cls := "StringTableau", name := "moved", desc := "(IIIIZ)LStringTableau$Row;" } : Jvm.MethodName)) ∈ lw_tbl := lw_at lw_m9 31 rfl
theorem q2071 : (Jvm.Cond.instanceMethod ({ cls := "StringTableau", name := "moved", desc := "(IIIIZ)LStringTableau$Row;" } : Jvm.MethodName)) ∈ lw_all := lw_g (lw_at lw_m9 32 rfl) rfl
theorem q2072 : (Jvm.Cond.code ({ cls := "StringTableau", name := "moved", desc := "(IIIIZ)LStringTableau$Row;" } : Jvm.MethodName) prog_1_method_54_code (9 : Nat) (Option.some (Jvm.ClassFile.FieldType.object "StringTableau$Row"))) ∈ lw_all := lw_g (lw_at lw_m9 33 rfl) rfl
theorem q2073 : (Jvm.Cond.classLink "StringTableau" (336 : Nat) "StringTableau$GateOperation") ∈ lw_all := lw_g (lw_at lw_m9 34 rfl) rfl
theorem q2074 : (Jvm.Cond.methodLink "StringTableau" (338 : Nat) ({ cls := "StringTableau$GateOperation", name := "change", desc := "(LStringTableau$Row;Z)V" } : Jvm.MethodName)) ∈ lw_all := lw_g (lw_at lw_m9 35 rfl) rfl
theorem q2086 : (Jvm.Cond.instanceMethod ({ cls := "StringTableau", name := "pulled", desc := "(IIIII)I" } : Jvm.MethodName)) ∈ lw_all := lw_g (lw_at lw_m9 47 rfl) rfl
theorem q2087 : (Jvm.Cond.selects "StringTableau" ({ cls := "StringTableau", name := "pulled", desc := "(IIIII)I" } : Jvm.MethodName) ({ cls := "StringTableau", name := "pulled", desc := "(IIIII)I" } : Jvm.MethodName)) ∈ lw_all := lw_g (lw_at lw_m9 48 rfl) rfl
theorem q2088 : (Jvm.Cond.code ({ cls := "StringTableau", name := "pulled", desc := "(IIIII)I" } : Jvm.MethodName) prog_1_method_56_code (6 : Nat) (Option.some Jvm.ClassFile.FieldType.int)) ∈ lw_all := lw_g (lw_at lw_m9 49 rfl) rfl
theorem q2093 : (Jvm.Cond.instanceMethod ({ cls := "StringTableau", name := "partner", desc := "(II)I" } : Jvm.MethodName)) ∈ lw_all := lw_g (lw_at lw_m9 54 rfl) rfl
theorem q2094 : (Jvm.Cond.selects "StringTableau" ({ cls := "StringTableau", name := "partner", desc := "(II)I" } : Jvm.MethodName) ({ cls := "StringTableau", name := "partner", desc := "(II)I" } : Jvm.MethodName)) ∈ lw_all := lw_g (lw_at lw_m9 55 rfl) rfl
theorem q2095 : (Jvm.Cond.code ({ cls := "StringTableau", name := "partner", desc := "(II)I" } : Jvm.MethodName) prog_1_method_58_code (6 : Nat) (Option.some Jvm.ClassFile.FieldType.int)) ∈ lw_all := lw_g (lw_at lw_m9 56 rfl) rfl
theorem q2100 : (Jvm.Cond.instanceMethod ({ cls := "StringTableau", name := "entropy", desc := "(I)I" } : Jvm.MethodName)) ∈ lw_all := lw_g (lw_at lw_m9 61 rfl) rfl
theorem q2101 : (Jvm.Cond.selects "StringTableau" ({ cls := "StringTableau", name := "entropy", desc := "(I)I" } : Jvm.MethodName) ({ cls := "StringTableau", name := "entropy", desc := "(I)I" } : Jvm.MethodName)) ∈ lw_all := lw_g (lw_at lw_m9 62 rfl) rfl
theorem q2102 : (Jvm.Cond.code ({ cls := "StringTableau", name := "entropy", desc := "(I)I" } : Jvm.MethodName) prog_1_method_59_code (2 : Nat) (Option.some Jvm.ClassFile.FieldType.int)) ∈ lw_all := lw_g (lw_at lw_m9 63 rfl) rfl
theorem q2107 : (Jvm.Cond.instanceMethod ({ cls := "StringTableau", name := "block", desc := "(I)I" } : Jvm.MethodName)) ∈ lw_all := lw_g (lw_at lw_m9 68 rfl) rfl
theorem q2108 : (Jvm.Cond.selects "StringTableau" ({ cls := "StringTableau", name := "block", desc := "(I)I" } : Jvm.MethodName) ({ cls := "StringTableau", name := "block", desc := "(I)I" } : Jvm.MethodName)) ∈ lw_all := lw_g (lw_at lw_m9 69 rfl) rfl
theorem q2109 : (Jvm.Cond.code ({ cls := "StringTableau", name := "block", desc := "(I)I" } : Jvm.MethodName) prog_1_method_61_code (5 : Nat) (Option.some Jvm.ClassFile.FieldType.int)) ∈ lw_all := lw_g (lw_at lw_m9 70 rfl) rfl
theorem q2114 : (Jvm.Cond.instanceMethod ({ cls := "StringTableau", name := "shared", desc := "(II)I" } : Jvm.MethodName)) ∈ lw_all := lw_g (lw_at lw_m9 75 rfl) rfl
theorem q2115 : (Jvm.Cond.selects "StringTableau" ({ cls := "StringTableau", name := "shared", desc := "(II)I" } : Jvm.MethodName) ({ cls := "StringTableau", name := "shared", desc := "(II)I" } : Jvm.MethodName)) ∈ lw_all := lw_g (lw_at lw_m9 76 rfl) rfl
theorem q2116 : (Jvm.Cond.code ({ cls := "StringTableau", name := "shared", desc := "(II)I" } : Jvm.MethodName) prog_1_method_62_code (4 : Nat) (Option.some Jvm.ClassFile.FieldType.int)) ∈ lw_all := lw_g (lw_at lw_m9 77 rfl) rfl
theorem q2121 : (Jvm.Cond.instanceMethod ({ cls := "StringTableau", name := "closestPair", desc := "()I" } : Jvm.MethodName)) ∈ lw_all := lw_g (lw_at lw_m9 82 rfl) rfl
theorem q2122 : (Jvm.Cond.selects "StringTableau" ({ cls := "StringTableau", name := "closestPair", desc := "()I" } : Jvm.MethodName) ({ cls := "StringTableau", name := "closestPair", desc := "()I" } : Jvm.MethodName)) ∈ lw_all := lw_g (lw_at lw_m9 83 rfl) rfl
theorem q2123 : (Jvm.Cond.code ({ cls := "StringTableau", name := "closestPair", desc := "()I" } : Jvm.MethodName) prog_1_method_63_code (7 : Nat) (Option.some Jvm.ClassFile.FieldType.int)) ∈ lw_all := lw_g (lw_at lw_m9 84 rfl) rfl
theorem q2128 : (Jvm.Cond.instanceMethod ({ cls := "StringTableau", name := "mostEntangled", desc := "(I)I" } : Jvm.MethodName)) ∈ lw_all := lw_g (lw_at lw_m9 89 rfl) rfl
theorem q2129 : (Jvm.Cond.selects "StringTableau" ({ cls := "StringTableau", name := "mostEntangled", desc := "(I)I" } : Jvm.MethodName) ({ cls := "StringTableau", name := "mostEntangled", desc := "(I)I" } : Jvm.MethodName)) ∈ lw_all := lw_g (lw_at lw_m9 90 rfl) rfl
theorem q2130 : (Jvm.Cond.code ({ cls := "StringTableau", name := "mostEntangled", desc := "(I)I" } : Jvm.MethodName) prog_1_method_64_code (7 : Nat) (Option.some Jvm.ClassFile.FieldType.int)) ∈ lw_all := lw_g (lw_at lw_m9 91 rfl) rfl
theorem q2135 : (Jvm.Cond.instanceMethod ({ cls := "StringTableau", name := "probability", desc := "(I)D" } : Jvm.MethodName)) ∈ lw_all := lw_g (lw_at lw_m9 96 rfl) rfl
theorem q2136 : (Jvm.Cond.selects "StringTableau" ({ cls := "StringTableau", name := "probability", desc := "(I)D" } : Jvm.MethodName) ({ cls := "StringTableau", name := "probability", desc := "(I)D" } : Jvm.MethodName)) ∈ lw_all := lw_g (lw_at lw_m9 97 rfl) rfl
theorem q2137 : (Jvm.Cond.code ({ cls := "StringTableau", name := "probability", desc := "(I)D" } : Jvm.MethodName) prog_1_method_67_code (2 : Nat) (Option.some Jvm.ClassFile.FieldType.double)) ∈ lw_all := lw_g (lw_at lw_m9 98 rfl) rfl
theorem q2138 : (Jvm.Cond.methodLink "StringTableau" (365 : Nat) ({ cls := "StringTableau", name := "spread", desc := "()I" } : Jvm.MethodName)) ∈ lw_all := lw_g (lw_at lw_m9 99 rfl) rfl
theorem q2143 : (Jvm.Cond.instanceMethod ({ cls := "StringTableau", name := "keep", desc := "(I)Z" } : Jvm.MethodName)) ∈ lw_all := lw_g (lw_at lw_m9 104 rfl) rfl
theorem q2144 : (Jvm.Cond.selects "StringTableau" ({ cls := "StringTableau", name := "keep", desc := "(I)Z" } : Jvm.MethodName) ({ cls := "StringTableau", name := "keep", desc := "(I)Z" } : Jvm.MethodName)) ∈ lw_all := lw_g (lw_at lw_m9 105 rfl) rfl
theorem q2145 : (Jvm.Cond.code ({ cls := "StringTableau", name := "keep", desc := "(I)Z" } : Jvm.MethodName) prog_1_method_70_code (3 : Nat) (Option.some Jvm.ClassFile.FieldType.boolean)) ∈ lw_all := lw_g (lw_at lw_m9 106 rfl) rfl
theorem q2150 : (Jvm.Cond.instanceMethod ({ cls := "StringTableau", name := "isSame", desc := "(I)Z" } : Jvm.MethodName)) ∈ lw_all := lw_g (lw_at lw_m9 111 rfl) rfl
theorem q2151 : (Jvm.Cond.selects "StringTableau" ({ cls := "StringTableau", name := "isSame", desc := "(I)Z" } : Jvm.MethodName) ({ cls := "StringTableau", name := "isSame", desc := "(I)Z" } : Jvm.MethodName)) ∈ lw_all := lw_g (lw_at lw_m9 112 rfl) rfl
theorem q2152 : (Jvm.Cond.code ({ cls := "StringTableau", name := "isSame", desc := "(I)Z" } : Jvm.MethodName) prog_1_method_71_code (8 : Nat) (Option.some Jvm.ClassFile.FieldType.boolean)) ∈ lw_all := lw_g (lw_at lw_m9 113 rfl) rfl
theorem q2153 : (Jvm.Cond.methodLink "StringTableau" (368 : Nat) ({ cls := "StringTableau$Tableau", name := "signs", desc := "()Ljava/util/Map;" } : Jvm.MethodName)) ∈ lw_all := lw_g (lw_at lw_m9 114 rfl) rfl
theorem q2247 : (Jvm.Cond.selects "StringTableau" ({ cls := "java/lang/Object", name := "hashCode", desc := "()I" } : Jvm.MethodName) ({ cls := "java/lang/Object", name := "hashCode", desc := "()I" } : Jvm.MethodName)) ∈ lw_all := lw_g (lw_at lw_m9 208 rfl) rfl
theorem q2604 : (Jvm.Cond.selects "StringTableau" ({ cls := "java/lang/Object", name := "equals", desc := "(Ljava/lang/Object;)Z" } : Jvm.MethodName) ({ cls := "java/lang/Object", name := "equals", desc := "(Ljava/lang/Object;)Z" } : Jvm.MethodName)) ∈ lw_all := lw_g (lw_at lw_m11 85 rfl) rfl
theorem q2725 : (Jvm.Cond.methodLink "StringTableau" (372 : Nat) ({ cls := "StringTableau$Row", name := "word", desc := "()LStringTableau$Word;" } : Jvm.MethodName)) ∈ lw_all := lw_g (lw_at lw_m11 206 rfl) rfl
theorem q2726 : (Jvm.Cond.interfaceEntry "StringTableau" (376 : Nat)) ∈ lw_tbl := lw_at lw_m11 207 rfl
theorem q2727 : (Jvm.Cond.methodLink "StringTableau" (376 : Nat) ({ cls := "java/util/Map", name := "get", desc := "(Ljava/lang/Object;)Ljava/lang/Object;" } : Jvm.MethodName)) ∈ lw_all := lw_g (lw_at lw_m11 208 rfl) rfl
theorem q2755 : (Jvm.Cond.classLink "StringTableau" (381 : Nat) "java/lang/Boolean") ∈ lw_all := lw_g (lw_at lw_m11 236 rfl) rfl
theorem q2756 : (Jvm.Cond.methodLink "StringTableau" (383 : Nat) ({ cls := "java/lang/Boolean", name := "booleanValue", desc := "()Z" } : Jvm.MethodName)) ∈ lw_all := lw_g (lw_at lw_m11 237 rfl) rfl
theorem q2761 : (Jvm.Cond.instanceMethod ({ cls := "StringTableau", name := "overlap", desc := "(I)I" } : Jvm.MethodName)) ∈ lw_all := lw_g (lw_at lw_m12 2 rfl) rfl
theorem q2762 : (Jvm.Cond.selects "StringTableau" ({ cls := "StringTableau", name := "overlap", desc := "(I)I" } : Jvm.MethodName) ({ cls := "StringTableau", name := "overlap", desc := "(I)I" } : Jvm.MethodName)) ∈ lw_all := lw_g (lw_at lw_m12 3 rfl) rfl
theorem q2763 : (Jvm.Cond.code ({ cls := "StringTableau", name := "overlap", desc := "(I)I" } : Jvm.MethodName) prog_1_method_72_code (7 : Nat) (Option.some Jvm.ClassFile.FieldType.int)) ∈ lw_all := lw_g (lw_at lw_m12 4 rfl) rfl
theorem q2764 : (Jvm.Cond.methodLink "StringTableau" (386 : Nat) ({ cls := "StringTableau$Tableau", name := "contains", desc := "(LStringTableau$Row;)I" } : Jvm.MethodName)) ∈ lw_all := lw_g (lw_at lw_m12 5 rfl) rfl
theorem q2769 : (Jvm.Cond.instanceMethod ({ cls := "StringTableau", name := "agreeing", desc := "(I)I" } : Jvm.MethodName)) ∈ lw_all := lw_g (lw_at lw_m12 10 rfl) rfl
theorem q2770 : (Jvm.Cond.selects "StringTableau" ({ cls := "StringTableau", name := "agreeing", desc := "(I)I" } : Jvm.MethodName) ({ cls := "StringTableau", name := "agreeing", desc := "(I)I" } : Jvm.MethodName)) ∈ lw_all := lw_g (lw_at lw_m12 11 rfl) rfl
theorem q2771 : (Jvm.Cond.code ({ cls := "StringTableau", name := "agreeing", desc := "(I)I" } : Jvm.MethodName) prog_1_method_73_code (6 : Nat) (Option.some Jvm.ClassFile.FieldType.int)) ∈ lw_all := lw_g (lw_at lw_m12 12 rfl) rfl
theorem q2776 : (Jvm.Cond.instanceMethod ({ cls := "StringTableau", name := "outsiders", desc := "(I)I" } : Jvm.MethodName)) ∈ lw_all := lw_g (lw_at lw_m12 17 rfl) rfl
theorem q2777 : (Jvm.Cond.selects "StringTableau" ({ cls := "StringTableau", name := "outsiders", desc := "(I)I" } : Jvm.MethodName) ({ cls := "StringTableau", name := "outsiders", desc := "(I)I" } : Jvm.MethodName)) ∈ lw_all := lw_g (lw_at lw_m12 18 rfl) rfl
theorem q2778 : (Jvm.Cond.code ({ cls := "StringTableau", name := "outsiders", desc := "(I)I" } : Jvm.MethodName) prog_1_method_74_code (8 : Nat) (Option.some Jvm.ClassFile.FieldType.int)) ∈ lw_all := lw_g (lw_at lw_m12 19 rfl) rfl
theorem q2779 : (Jvm.Cond.classLink "StringTableau" (389 : Nat) "java/util/HashSet") ∈ lw_all := lw_g (lw_at lw_m12 20 rfl) rfl
theorem q2781 : (Jvm.Cond.methodLink "StringTableau" (391 : Nat) ({ cls := "java/util/HashSet", name := "<init>", desc := "()V" } : Jvm.MethodName)) ∈ lw_all := lw_g (lw_at lw_m12 22 rfl) rfl
theorem q2804 : (Jvm.Cond.interfaceEntry "StringTableau" (392 : Nat)) ∈ lw_tbl := lw_at lw_m12 45 rfl
theorem q2805 : (Jvm.Cond.methodLink "StringTableau" (392 : Nat) ({ cls := "java/util/Set", name := "add", desc := "(Ljava/lang/Object;)Z" } : Jvm.MethodName)) ∈ lw_all := lw_g (lw_at lw_m12 46 rfl) rfl
theorem q2817 : (Jvm.Cond.interfaceEntry "StringTableau" (398 : Nat)) ∈ lw_tbl := lw_at lw_m12 58 rfl
theorem q2818 : (Jvm.Cond.methodLink "StringTableau" (398 : Nat) ({ cls := "java/util/Set", name := "contains", desc := "(Ljava/lang/Object;)Z" } : Jvm.MethodName)) ∈ lw_all := lw_g (lw_at lw_m12 59 rfl) rfl
theorem q2836 : (Jvm.Cond.instanceMethod ({ cls := "StringTableau", name := "innerSquare", desc := "(I)F" } : Jvm.MethodName)) ∈ lw_all := lw_g (lw_at lw_m12 77 rfl) rfl
theorem q2837 : (Jvm.Cond.selects "StringTableau" ({ cls := "StringTableau", name := "innerSquare", desc := "(I)F" } : Jvm.MethodName) ({ cls := "StringTableau", name := "innerSquare", desc := "(I)F" } : Jvm.MethodName)) ∈ lw_all := lw_g (lw_at lw_m12 78 rfl) rfl
theorem q2838 : (Jvm.Cond.code ({ cls := "StringTableau", name := "innerSquare", desc := "(I)F" } : Jvm.MethodName) prog_1_method_75_code (3 : Nat) (Option.some Jvm.ClassFile.FieldType.float)) ∈ lw_all := lw_g (lw_at lw_m12 79 rfl) rfl
theorem q2839 : (Jvm.Cond.methodLink "StringTableau" (400 : Nat) ({ cls := "StringTableau", name := "overlap", desc := "(I)I" } : Jvm.MethodName)) ∈ lw_all := lw_g (lw_at lw_m12 80 rfl) rfl
theorem q3550 : (Jvm.Cond.castable "StringTableau" "java/lang/Object") ∈ lw_tbl := lw_at lw_m15 71 rfl
theorem in_X1 : ∀ w ∈ wsX10, w ∈ lw_all := lw_in wsX10 [356, 358, 360, 362, 364, 366, 368, 370, 372] (by decide +kernel) (by decide +kernel)
