/-! StringTableau$State -/
set_option maxRecDepth 100000
def RX2 : String := "StringTableau$State"
def TX2 : u_T := fun k => match k with
  | 0 => ("StringTableau$State", "tableau", "LStringTableau$Tableau;", false)
  | 1 => ("StringTableau$State", "records", "Ljava/util/List;", true)
  | 2 => ("StringTableau$State", "trail", "Ljava/util/ArrayDeque;", true)
  | 3 => ("StringTableau$State", "outcomes", "[I", true)
  | 4 => ("StringTableau$State", "lot", "I", false)
  | 5 => ("StringTableau$State", "place", "I", false)
  | _ => ("StringTableau$State", "gates", "I", false)
def tyX2 : Nat → FieldType := fun k => match k with
  | 0 => .object "StringTableau$Tableau"
  | 1 => .object "java/util/List"
  | 2 => .object "java/util/ArrayDeque"
  | 3 => .array .int
  | 4 => .int
  | 5 => .int
  | _ => .int
abbrev wsX20 : List Cond := u_ws RX2 TX2 7
theorem nmX2 : ∀ a, a < 7 → ∀ b, b < 7 → a ≠ b → (TX2 a).2.1 ≠ (TX2 b).2.1 := by decide +kernel
theorem tyX2_ok : ∀ k, k < 7 → parseFieldDescriptor (TX2 k).2.2.1 = some (tyX2 k) := by decide +kernel
abbrev cX2_init : ByteArray := prog_11_method_1_code
def yX2_init : MethodName := ⟨RX2, "<init>", "(II)V"⟩
def dkwX2_init_2 : List UInt8 := [28, 181, 0, 38, 177]
abbrev dktX2_init_2 : List UInt8 := dkwX2_init_2 ++ []
def dkwX2_init_1 : List UInt8 := [181, 0, 21, 42, 16, 60, 188, 10, 181, 0, 25, 42, 187, 0, 29, 89, 27, 183, 0, 31, 181, 0, 34, 42]
abbrev dktX2_init_1 : List UInt8 := dkwX2_init_1 ++ dktX2_init_2
def dkwX2_init_0 : List UInt8 := [42, 183, 0, 3, 42, 187, 0, 9, 89, 183, 0, 11, 181, 0, 12, 42, 187, 0, 18, 89, 183, 0, 20]
abbrev dktX2_init_0 : List UInt8 := dkwX2_init_0 ++ dktX2_init_1
theorem dksX2_init_0 : cX2_init.data.toList.drop 0 = dktX2_init_0 := by decide +kernel
theorem dksX2_init_1 : cX2_init.data.toList.drop 23 = dktX2_init_1 := dk_seg dksX2_init_0 23 rfl rfl
theorem dksX2_init_2 : cX2_init.data.toList.drop 47 = dktX2_init_2 := dk_seg dksX2_init_1 24 rfl rfl
theorem dX2_init_0 : decode cX2_init 0 = .ok (.aload_n 0, 1) := dk_42 (dk_at dksX2_init_0 0 rfl rfl)
theorem dX2_init_1 : decode cX2_init 1 = .ok (.invokespecial 3, 3) := dk_183 0 3 (dk_at dksX2_init_0 1 rfl rfl)
theorem dX2_init_4 : decode cX2_init 4 = .ok (.aload_n 0, 1) := dk_42 (dk_at dksX2_init_0 4 rfl rfl)
theorem dX2_init_5 : decode cX2_init 5 = .ok (.new 9, 3) := dk_187 0 9 (dk_at dksX2_init_0 5 rfl rfl)
theorem dX2_init_8 : decode cX2_init 8 = .ok (.dup, 1) := dk_89 (dk_at dksX2_init_0 8 rfl rfl)
theorem dX2_init_9 : decode cX2_init 9 = .ok (.invokespecial 11, 3) := dk_183 0 11 (dk_at dksX2_init_0 9 rfl rfl)
theorem dX2_init_12 : decode cX2_init 12 = .ok (.putfield 12, 3) := dk_181 0 12 (dk_at dksX2_init_0 12 rfl rfl)
theorem dX2_init_15 : decode cX2_init 15 = .ok (.aload_n 0, 1) := dk_42 (dk_at dksX2_init_0 15 rfl rfl)
theorem dX2_init_16 : decode cX2_init 16 = .ok (.new 18, 3) := dk_187 0 18 (dk_at dksX2_init_0 16 rfl rfl)
theorem dX2_init_19 : decode cX2_init 19 = .ok (.dup, 1) := dk_89 (dk_at dksX2_init_0 19 rfl rfl)
theorem dX2_init_20 : decode cX2_init 20 = .ok (.invokespecial 20, 3) := dk_183 0 20 (dk_at dksX2_init_0 20 rfl rfl)
theorem dX2_init_23 : decode cX2_init 23 = .ok (.putfield 21, 3) := dk_181 0 21 (dk_at dksX2_init_1 0 rfl rfl)
theorem dX2_init_26 : decode cX2_init 26 = .ok (.aload_n 0, 1) := dk_42 (dk_at dksX2_init_1 3 rfl rfl)
theorem dX2_init_27 : decode cX2_init 27 = .ok (.bipush 60, 2) := dk_16 60 (dk_at dksX2_init_1 4 rfl rfl)
theorem dX2_init_29 : decode cX2_init 29 = .ok (.newarray .int, 2) := dk_188_10 (dk_at dksX2_init_1 6 rfl rfl)
theorem dX2_init_31 : decode cX2_init 31 = .ok (.putfield 25, 3) := dk_181 0 25 (dk_at dksX2_init_1 8 rfl rfl)
theorem dX2_init_34 : decode cX2_init 34 = .ok (.aload_n 0, 1) := dk_42 (dk_at dksX2_init_1 11 rfl rfl)
theorem dX2_init_35 : decode cX2_init 35 = .ok (.new 29, 3) := dk_187 0 29 (dk_at dksX2_init_1 12 rfl rfl)
theorem dX2_init_38 : decode cX2_init 38 = .ok (.dup, 1) := dk_89 (dk_at dksX2_init_1 15 rfl rfl)
theorem dX2_init_39 : decode cX2_init 39 = .ok (.iload_n 1, 1) := dk_27 (dk_at dksX2_init_1 16 rfl rfl)
theorem dX2_init_40 : decode cX2_init 40 = .ok (.invokespecial 31, 3) := dk_183 0 31 (dk_at dksX2_init_1 17 rfl rfl)
theorem dX2_init_43 : decode cX2_init 43 = .ok (.putfield 34, 3) := dk_181 0 34 (dk_at dksX2_init_1 20 rfl rfl)
theorem dX2_init_46 : decode cX2_init 46 = .ok (.aload_n 0, 1) := dk_42 (dk_at dksX2_init_1 23 rfl rfl)
theorem dX2_init_47 : decode cX2_init 47 = .ok (.iload_n 2, 1) := dk_28 (dk_at dksX2_init_2 0 rfl rfl)
theorem dX2_init_48 : decode cX2_init 48 = .ok (.putfield 38, 3) := dk_181 0 38 (dk_at dksX2_init_2 1 rfl rfl)
theorem dX2_init_51 : decode cX2_init 51 = .ok (.return_, 1) := dk_177 (dk_at dksX2_init_2 4 rfl rfl)
abbrev cX2_canMeasure : ByteArray := prog_11_method_7_code
def yX2_canMeasure : MethodName := ⟨RX2, "canMeasure", "(LStringTableau$Row;I)Z"⟩
def dkwX2_canMeasure_1 : List UInt8 := [29, 153, 0, 8, 29, 28, 160, 0, 7, 4, 167, 0, 4, 3, 172]
abbrev dktX2_canMeasure_1 : List UInt8 := dkwX2_canMeasure_1 ++ []
def dkwX2_canMeasure_0 : List UInt8 := [42, 43, 182, 0, 122, 62, 42, 180, 0, 12, 185, 0, 125, 1, 0, 16, 100, 162, 0, 20, 28, 153, 0, 12]
abbrev dktX2_canMeasure_0 : List UInt8 := dkwX2_canMeasure_0 ++ dktX2_canMeasure_1
theorem dksX2_canMeasure_0 : cX2_canMeasure.data.toList.drop 0 = dktX2_canMeasure_0 := by decide +kernel
theorem dksX2_canMeasure_1 : cX2_canMeasure.data.toList.drop 24 = dktX2_canMeasure_1 := dk_seg dksX2_canMeasure_0 24 rfl rfl
theorem dX2_canMeasure_0 : decode cX2_canMeasure 0 = .ok (.aload_n 0, 1) := dk_42 (dk_at dksX2_canMeasure_0 0 rfl rfl)
theorem dX2_canMeasure_1 : decode cX2_canMeasure 1 = .ok (.aload_n 1, 1) := dk_43 (dk_at dksX2_canMeasure_0 1 rfl rfl)
theorem dX2_canMeasure_2 : decode cX2_canMeasure 2 = .ok (.invokevirtual 122, 3) := dk_182 0 122 (dk_at dksX2_canMeasure_0 2 rfl rfl)
theorem dX2_canMeasure_5 : decode cX2_canMeasure 5 = .ok (.istore_n 3, 1) := dk_62 (dk_at dksX2_canMeasure_0 5 rfl rfl)
theorem dX2_canMeasure_6 : decode cX2_canMeasure 6 = .ok (.aload_n 0, 1) := dk_42 (dk_at dksX2_canMeasure_0 6 rfl rfl)
theorem dX2_canMeasure_7 : decode cX2_canMeasure 7 = .ok (.getfield 12, 3) := dk_180 0 12 (dk_at dksX2_canMeasure_0 7 rfl rfl)
theorem dX2_canMeasure_10 : decode cX2_canMeasure 10 = .ok (.invokeinterface 125 1, 5) := by decide +kernel
theorem dX2_canMeasure_15 : decode cX2_canMeasure 15 = .ok (.bipush 100, 2) := dk_16 100 (dk_at dksX2_canMeasure_0 15 rfl rfl)
theorem dX2_canMeasure_17 : decode cX2_canMeasure 17 = .ok (.if_icmp .ge 20, 3) := dk_162 0 20 (dk_at dksX2_canMeasure_0 17 rfl rfl)
theorem dX2_canMeasure_20 : decode cX2_canMeasure 20 = .ok (.iload_n 2, 1) := dk_28 (dk_at dksX2_canMeasure_0 20 rfl rfl)
theorem dX2_canMeasure_21 : decode cX2_canMeasure 21 = .ok (.ifCond .eq 12, 3) := dk_153 0 12 (dk_at dksX2_canMeasure_0 21 rfl rfl)
theorem dX2_canMeasure_24 : decode cX2_canMeasure 24 = .ok (.iload_n 3, 1) := dk_29 (dk_at dksX2_canMeasure_1 0 rfl rfl)
theorem dX2_canMeasure_25 : decode cX2_canMeasure 25 = .ok (.ifCond .eq 8, 3) := dk_153 0 8 (dk_at dksX2_canMeasure_1 1 rfl rfl)
theorem dX2_canMeasure_28 : decode cX2_canMeasure 28 = .ok (.iload_n 3, 1) := dk_29 (dk_at dksX2_canMeasure_1 4 rfl rfl)
theorem dX2_canMeasure_29 : decode cX2_canMeasure 29 = .ok (.iload_n 2, 1) := dk_28 (dk_at dksX2_canMeasure_1 5 rfl rfl)
theorem dX2_canMeasure_30 : decode cX2_canMeasure 30 = .ok (.if_icmp .ne 7, 3) := dk_160 0 7 (dk_at dksX2_canMeasure_1 6 rfl rfl)
theorem dX2_canMeasure_33 : decode cX2_canMeasure 33 = .ok (.iconst 1, 1) := dk_4 (dk_at dksX2_canMeasure_1 9 rfl rfl)
theorem dX2_canMeasure_34 : decode cX2_canMeasure 34 = .ok (.goto 4, 3) := dk_167 0 4 (dk_at dksX2_canMeasure_1 10 rfl rfl)
theorem dX2_canMeasure_37 : decode cX2_canMeasure 37 = .ok (.iconst 0, 1) := dk_3 (dk_at dksX2_canMeasure_1 13 rfl rfl)
theorem dX2_canMeasure_38 : decode cX2_canMeasure 38 = .ok (.ireturn, 1) := dk_172 (dk_at dksX2_canMeasure_1 14 rfl rfl)
abbrev cX2_determined : ByteArray := prog_11_method_6_code
def yX2_determined : MethodName := ⟨RX2, "determined", "(LStringTableau$Row;)I"⟩
def dkwX2_determined_1 : List UInt8 := [43, 182, 0, 118, 172]
abbrev dktX2_determined_1 : List UInt8 := dkwX2_determined_1 ++ []
def dkwX2_determined_0 : List UInt8 := [42, 180, 0, 34, 43, 180, 0, 106, 43, 180, 0, 111, 182, 0, 114, 153, 0, 5, 3, 172, 42, 180, 0, 34]
abbrev dktX2_determined_0 : List UInt8 := dkwX2_determined_0 ++ dktX2_determined_1
theorem dksX2_determined_0 : cX2_determined.data.toList.drop 0 = dktX2_determined_0 := by decide +kernel
theorem dksX2_determined_1 : cX2_determined.data.toList.drop 24 = dktX2_determined_1 := dk_seg dksX2_determined_0 24 rfl rfl
theorem dX2_determined_0 : decode cX2_determined 0 = .ok (.aload_n 0, 1) := dk_42 (dk_at dksX2_determined_0 0 rfl rfl)
theorem dX2_determined_1 : decode cX2_determined 1 = .ok (.getfield 34, 3) := dk_180 0 34 (dk_at dksX2_determined_0 1 rfl rfl)
theorem dX2_determined_4 : decode cX2_determined 4 = .ok (.aload_n 1, 1) := dk_43 (dk_at dksX2_determined_0 4 rfl rfl)
theorem dX2_determined_5 : decode cX2_determined 5 = .ok (.getfield 106, 3) := dk_180 0 106 (dk_at dksX2_determined_0 5 rfl rfl)
theorem dX2_determined_8 : decode cX2_determined 8 = .ok (.aload_n 1, 1) := dk_43 (dk_at dksX2_determined_0 8 rfl rfl)
theorem dX2_determined_9 : decode cX2_determined 9 = .ok (.getfield 111, 3) := dk_180 0 111 (dk_at dksX2_determined_0 9 rfl rfl)
theorem dX2_determined_12 : decode cX2_determined 12 = .ok (.invokevirtual 114, 3) := dk_182 0 114 (dk_at dksX2_determined_0 12 rfl rfl)
theorem dX2_determined_15 : decode cX2_determined 15 = .ok (.ifCond .eq 5, 3) := dk_153 0 5 (dk_at dksX2_determined_0 15 rfl rfl)
theorem dX2_determined_18 : decode cX2_determined 18 = .ok (.iconst 0, 1) := dk_3 (dk_at dksX2_determined_0 18 rfl rfl)
theorem dX2_determined_19 : decode cX2_determined 19 = .ok (.ireturn, 1) := dk_172 (dk_at dksX2_determined_0 19 rfl rfl)
theorem dX2_determined_20 : decode cX2_determined 20 = .ok (.aload_n 0, 1) := dk_42 (dk_at dksX2_determined_0 20 rfl rfl)
theorem dX2_determined_21 : decode cX2_determined 21 = .ok (.getfield 34, 3) := dk_180 0 34 (dk_at dksX2_determined_0 21 rfl rfl)
theorem dX2_determined_24 : decode cX2_determined 24 = .ok (.aload_n 1, 1) := dk_43 (dk_at dksX2_determined_1 0 rfl rfl)
theorem dX2_determined_25 : decode cX2_determined 25 = .ok (.invokevirtual 118, 3) := dk_182 0 118 (dk_at dksX2_determined_1 1 rfl rfl)
theorem dX2_determined_28 : decode cX2_determined 28 = .ok (.ireturn, 1) := dk_172 (dk_at dksX2_determined_1 4 rfl rfl)
abbrev cX2_copy : ByteArray := prog_11_method_2_code
def yX2_copy : MethodName := ⟨RX2, "copy", "()LStringTableau$State;"⟩
def dkwX2_copy_4 : List UInt8 := [3, 16, 60, 184, 0, 78, 43, 42, 180, 0, 84, 181, 0, 84, 43, 42, 180, 0, 87, 181, 0, 87, 43, 176]
abbrev dktX2_copy_4 : List UInt8 := dkwX2_copy_4 ++ []
def dkwX2_copy_3 : List UInt8 := [192, 0, 73, 78, 43, 180, 0, 21, 45, 182, 0, 74, 167, 255, 229, 42, 180, 0, 25, 3, 43, 180, 0, 25]
abbrev dktX2_copy_3 : List UInt8 := dkwX2_copy_3 ++ dktX2_copy_4
def dkwX2_copy_2 : List UInt8 := [180, 0, 21, 182, 0, 59, 77, 44, 185, 0, 63, 1, 0, 153, 0, 24, 44, 185, 0, 69, 1, 0]
abbrev dktX2_copy_2 : List UInt8 := dkwX2_copy_2 ++ dktX2_copy_3
def dkwX2_copy_1 : List UInt8 := [180, 0, 34, 182, 0, 49, 181, 0, 34, 43, 180, 0, 12, 42, 180, 0, 12, 185, 0, 53, 2, 0, 87, 42]
abbrev dktX2_copy_1 : List UInt8 := dkwX2_copy_1 ++ dktX2_copy_2
def dkwX2_copy_0 : List UInt8 := [187, 0, 13, 89, 42, 180, 0, 34, 180, 0, 42, 190, 42, 180, 0, 38, 183, 0, 46, 76, 43, 42]
abbrev dktX2_copy_0 : List UInt8 := dkwX2_copy_0 ++ dktX2_copy_1
theorem dksX2_copy_0 : cX2_copy.data.toList.drop 0 = dktX2_copy_0 := by decide +kernel
theorem dksX2_copy_1 : cX2_copy.data.toList.drop 22 = dktX2_copy_1 := dk_seg dksX2_copy_0 22 rfl rfl
theorem dksX2_copy_2 : cX2_copy.data.toList.drop 46 = dktX2_copy_2 := dk_seg dksX2_copy_1 24 rfl rfl
theorem dksX2_copy_3 : cX2_copy.data.toList.drop 68 = dktX2_copy_3 := dk_seg dksX2_copy_2 22 rfl rfl
theorem dksX2_copy_4 : cX2_copy.data.toList.drop 92 = dktX2_copy_4 := dk_seg dksX2_copy_3 24 rfl rfl
theorem dX2_copy_0 : decode cX2_copy 0 = .ok (.new 13, 3) := dk_187 0 13 (dk_at dksX2_copy_0 0 rfl rfl)
theorem dX2_copy_3 : decode cX2_copy 3 = .ok (.dup, 1) := dk_89 (dk_at dksX2_copy_0 3 rfl rfl)
theorem dX2_copy_4 : decode cX2_copy 4 = .ok (.aload_n 0, 1) := dk_42 (dk_at dksX2_copy_0 4 rfl rfl)
theorem dX2_copy_5 : decode cX2_copy 5 = .ok (.getfield 34, 3) := dk_180 0 34 (dk_at dksX2_copy_0 5 rfl rfl)
theorem dX2_copy_8 : decode cX2_copy 8 = .ok (.getfield 42, 3) := dk_180 0 42 (dk_at dksX2_copy_0 8 rfl rfl)
theorem dX2_copy_11 : decode cX2_copy 11 = .ok (.arraylength, 1) := dk_190 (dk_at dksX2_copy_0 11 rfl rfl)
theorem dX2_copy_12 : decode cX2_copy 12 = .ok (.aload_n 0, 1) := dk_42 (dk_at dksX2_copy_0 12 rfl rfl)
theorem dX2_copy_13 : decode cX2_copy 13 = .ok (.getfield 38, 3) := dk_180 0 38 (dk_at dksX2_copy_0 13 rfl rfl)
theorem dX2_copy_16 : decode cX2_copy 16 = .ok (.invokespecial 46, 3) := dk_183 0 46 (dk_at dksX2_copy_0 16 rfl rfl)
theorem dX2_copy_19 : decode cX2_copy 19 = .ok (.astore_n 1, 1) := dk_76 (dk_at dksX2_copy_0 19 rfl rfl)
theorem dX2_copy_20 : decode cX2_copy 20 = .ok (.aload_n 1, 1) := dk_43 (dk_at dksX2_copy_0 20 rfl rfl)
theorem dX2_copy_21 : decode cX2_copy 21 = .ok (.aload_n 0, 1) := dk_42 (dk_at dksX2_copy_0 21 rfl rfl)
theorem dX2_copy_22 : decode cX2_copy 22 = .ok (.getfield 34, 3) := dk_180 0 34 (dk_at dksX2_copy_1 0 rfl rfl)
theorem dX2_copy_25 : decode cX2_copy 25 = .ok (.invokevirtual 49, 3) := dk_182 0 49 (dk_at dksX2_copy_1 3 rfl rfl)
theorem dX2_copy_28 : decode cX2_copy 28 = .ok (.putfield 34, 3) := dk_181 0 34 (dk_at dksX2_copy_1 6 rfl rfl)
theorem dX2_copy_31 : decode cX2_copy 31 = .ok (.aload_n 1, 1) := dk_43 (dk_at dksX2_copy_1 9 rfl rfl)
theorem dX2_copy_32 : decode cX2_copy 32 = .ok (.getfield 12, 3) := dk_180 0 12 (dk_at dksX2_copy_1 10 rfl rfl)
theorem dX2_copy_35 : decode cX2_copy 35 = .ok (.aload_n 0, 1) := dk_42 (dk_at dksX2_copy_1 13 rfl rfl)
theorem dX2_copy_36 : decode cX2_copy 36 = .ok (.getfield 12, 3) := dk_180 0 12 (dk_at dksX2_copy_1 14 rfl rfl)
theorem dX2_copy_39 : decode cX2_copy 39 = .ok (.invokeinterface 53 2, 5) := by decide +kernel
theorem dX2_copy_44 : decode cX2_copy 44 = .ok (.pop, 1) := dk_87 (dk_at dksX2_copy_1 22 rfl rfl)
theorem dX2_copy_45 : decode cX2_copy 45 = .ok (.aload_n 0, 1) := dk_42 (dk_at dksX2_copy_1 23 rfl rfl)
theorem dX2_copy_46 : decode cX2_copy 46 = .ok (.getfield 21, 3) := dk_180 0 21 (dk_at dksX2_copy_2 0 rfl rfl)
theorem dX2_copy_49 : decode cX2_copy 49 = .ok (.invokevirtual 59, 3) := dk_182 0 59 (dk_at dksX2_copy_2 3 rfl rfl)
theorem dX2_copy_52 : decode cX2_copy 52 = .ok (.astore_n 2, 1) := dk_77 (dk_at dksX2_copy_2 6 rfl rfl)
theorem dX2_copy_53 : decode cX2_copy 53 = .ok (.aload_n 2, 1) := dk_44 (dk_at dksX2_copy_2 7 rfl rfl)
theorem dX2_copy_54 : decode cX2_copy 54 = .ok (.invokeinterface 63 1, 5) := by decide +kernel
theorem dX2_copy_59 : decode cX2_copy 59 = .ok (.ifCond .eq 24, 3) := dk_153 0 24 (dk_at dksX2_copy_2 13 rfl rfl)
theorem dX2_copy_62 : decode cX2_copy 62 = .ok (.aload_n 2, 1) := dk_44 (dk_at dksX2_copy_2 16 rfl rfl)
theorem dX2_copy_63 : decode cX2_copy 63 = .ok (.invokeinterface 69 1, 5) := by decide +kernel
theorem dX2_copy_68 : decode cX2_copy 68 = .ok (.checkcast 73, 3) := dk_192 0 73 (dk_at dksX2_copy_3 0 rfl rfl)
theorem dX2_copy_71 : decode cX2_copy 71 = .ok (.astore_n 3, 1) := dk_78 (dk_at dksX2_copy_3 3 rfl rfl)
theorem dX2_copy_72 : decode cX2_copy 72 = .ok (.aload_n 1, 1) := dk_43 (dk_at dksX2_copy_3 4 rfl rfl)
theorem dX2_copy_73 : decode cX2_copy 73 = .ok (.getfield 21, 3) := dk_180 0 21 (dk_at dksX2_copy_3 5 rfl rfl)
theorem dX2_copy_76 : decode cX2_copy 76 = .ok (.aload_n 3, 1) := dk_45 (dk_at dksX2_copy_3 8 rfl rfl)
theorem dX2_copy_77 : decode cX2_copy 77 = .ok (.invokevirtual 74, 3) := dk_182 0 74 (dk_at dksX2_copy_3 9 rfl rfl)
theorem dX2_copy_80 : decode cX2_copy 80 = .ok (.goto (-27), 3) := dk_167 255 229 (dk_at dksX2_copy_3 12 rfl rfl)
theorem dX2_copy_83 : decode cX2_copy 83 = .ok (.aload_n 0, 1) := dk_42 (dk_at dksX2_copy_3 15 rfl rfl)
theorem dX2_copy_84 : decode cX2_copy 84 = .ok (.getfield 25, 3) := dk_180 0 25 (dk_at dksX2_copy_3 16 rfl rfl)
theorem dX2_copy_87 : decode cX2_copy 87 = .ok (.iconst 0, 1) := dk_3 (dk_at dksX2_copy_3 19 rfl rfl)
theorem dX2_copy_88 : decode cX2_copy 88 = .ok (.aload_n 1, 1) := dk_43 (dk_at dksX2_copy_3 20 rfl rfl)
theorem dX2_copy_89 : decode cX2_copy 89 = .ok (.getfield 25, 3) := dk_180 0 25 (dk_at dksX2_copy_3 21 rfl rfl)
theorem dX2_copy_92 : decode cX2_copy 92 = .ok (.iconst 0, 1) := dk_3 (dk_at dksX2_copy_4 0 rfl rfl)
theorem dX2_copy_93 : decode cX2_copy 93 = .ok (.bipush 60, 2) := dk_16 60 (dk_at dksX2_copy_4 1 rfl rfl)
theorem dX2_copy_95 : decode cX2_copy 95 = .ok (.invokestatic 78, 3) := dk_184 0 78 (dk_at dksX2_copy_4 3 rfl rfl)
theorem dX2_copy_98 : decode cX2_copy 98 = .ok (.aload_n 1, 1) := dk_43 (dk_at dksX2_copy_4 6 rfl rfl)
theorem dX2_copy_99 : decode cX2_copy 99 = .ok (.aload_n 0, 1) := dk_42 (dk_at dksX2_copy_4 7 rfl rfl)
theorem dX2_copy_100 : decode cX2_copy 100 = .ok (.getfield 84, 3) := dk_180 0 84 (dk_at dksX2_copy_4 8 rfl rfl)
theorem dX2_copy_103 : decode cX2_copy 103 = .ok (.putfield 84, 3) := dk_181 0 84 (dk_at dksX2_copy_4 11 rfl rfl)
theorem dX2_copy_106 : decode cX2_copy 106 = .ok (.aload_n 1, 1) := dk_43 (dk_at dksX2_copy_4 14 rfl rfl)
theorem dX2_copy_107 : decode cX2_copy 107 = .ok (.aload_n 0, 1) := dk_42 (dk_at dksX2_copy_4 15 rfl rfl)
theorem dX2_copy_108 : decode cX2_copy 108 = .ok (.getfield 87, 3) := dk_180 0 87 (dk_at dksX2_copy_4 16 rfl rfl)
theorem dX2_copy_111 : decode cX2_copy 111 = .ok (.putfield 87, 3) := dk_181 0 87 (dk_at dksX2_copy_4 19 rfl rfl)
theorem dX2_copy_114 : decode cX2_copy 114 = .ok (.aload_n 1, 1) := dk_43 (dk_at dksX2_copy_4 22 rfl rfl)
theorem dX2_copy_115 : decode cX2_copy 115 = .ok (.areturn, 1) := dk_176 (dk_at dksX2_copy_4 23 rfl rfl)
abbrev cX2_gateOnTrail : ByteArray := prog_11_method_5_code
def yX2_gateOnTrail : MethodName := ⟨RX2, "gateOnTrail", "(III)V"⟩
def dkwX2_gateOnTrail_2 : List UInt8 := [182, 0, 74, 177]
abbrev dktX2_gateOnTrail_2 : List UInt8 := dkwX2_gateOnTrail_2 ++ []
def dkwX2_gateOnTrail_1 : List UInt8 := [182, 0, 103, 87, 42, 180, 0, 21, 6, 188, 10, 89, 3, 27, 79, 89, 4, 28, 79, 89, 5, 29, 79]
abbrev dktX2_gateOnTrail_1 : List UInt8 := dkwX2_gateOnTrail_1 ++ dktX2_gateOnTrail_2
def dkwX2_gateOnTrail_0 : List UInt8 := [42, 27, 28, 29, 182, 0, 98, 42, 180, 0, 21, 182, 0, 99, 16, 80, 160, 0, 11, 42, 180, 0, 21]
abbrev dktX2_gateOnTrail_0 : List UInt8 := dkwX2_gateOnTrail_0 ++ dktX2_gateOnTrail_1
theorem dksX2_gateOnTrail_0 : cX2_gateOnTrail.data.toList.drop 0 = dktX2_gateOnTrail_0 := by decide +kernel
theorem dksX2_gateOnTrail_1 : cX2_gateOnTrail.data.toList.drop 23 = dktX2_gateOnTrail_1 := dk_seg dksX2_gateOnTrail_0 23 rfl rfl
theorem dksX2_gateOnTrail_2 : cX2_gateOnTrail.data.toList.drop 46 = dktX2_gateOnTrail_2 := dk_seg dksX2_gateOnTrail_1 23 rfl rfl
theorem dX2_gateOnTrail_0 : decode cX2_gateOnTrail 0 = .ok (.aload_n 0, 1) := dk_42 (dk_at dksX2_gateOnTrail_0 0 rfl rfl)
theorem dX2_gateOnTrail_1 : decode cX2_gateOnTrail 1 = .ok (.iload_n 1, 1) := dk_27 (dk_at dksX2_gateOnTrail_0 1 rfl rfl)
theorem dX2_gateOnTrail_2 : decode cX2_gateOnTrail 2 = .ok (.iload_n 2, 1) := dk_28 (dk_at dksX2_gateOnTrail_0 2 rfl rfl)
theorem dX2_gateOnTrail_3 : decode cX2_gateOnTrail 3 = .ok (.iload_n 3, 1) := dk_29 (dk_at dksX2_gateOnTrail_0 3 rfl rfl)
theorem dX2_gateOnTrail_4 : decode cX2_gateOnTrail 4 = .ok (.invokevirtual 98, 3) := dk_182 0 98 (dk_at dksX2_gateOnTrail_0 4 rfl rfl)
theorem dX2_gateOnTrail_7 : decode cX2_gateOnTrail 7 = .ok (.aload_n 0, 1) := dk_42 (dk_at dksX2_gateOnTrail_0 7 rfl rfl)
theorem dX2_gateOnTrail_8 : decode cX2_gateOnTrail 8 = .ok (.getfield 21, 3) := dk_180 0 21 (dk_at dksX2_gateOnTrail_0 8 rfl rfl)
theorem dX2_gateOnTrail_11 : decode cX2_gateOnTrail 11 = .ok (.invokevirtual 99, 3) := dk_182 0 99 (dk_at dksX2_gateOnTrail_0 11 rfl rfl)
theorem dX2_gateOnTrail_14 : decode cX2_gateOnTrail 14 = .ok (.bipush 80, 2) := dk_16 80 (dk_at dksX2_gateOnTrail_0 14 rfl rfl)
theorem dX2_gateOnTrail_16 : decode cX2_gateOnTrail 16 = .ok (.if_icmp .ne 11, 3) := dk_160 0 11 (dk_at dksX2_gateOnTrail_0 16 rfl rfl)
theorem dX2_gateOnTrail_19 : decode cX2_gateOnTrail 19 = .ok (.aload_n 0, 1) := dk_42 (dk_at dksX2_gateOnTrail_0 19 rfl rfl)
theorem dX2_gateOnTrail_20 : decode cX2_gateOnTrail 20 = .ok (.getfield 21, 3) := dk_180 0 21 (dk_at dksX2_gateOnTrail_0 20 rfl rfl)
theorem dX2_gateOnTrail_23 : decode cX2_gateOnTrail 23 = .ok (.invokevirtual 103, 3) := dk_182 0 103 (dk_at dksX2_gateOnTrail_1 0 rfl rfl)
theorem dX2_gateOnTrail_26 : decode cX2_gateOnTrail 26 = .ok (.pop, 1) := dk_87 (dk_at dksX2_gateOnTrail_1 3 rfl rfl)
theorem dX2_gateOnTrail_27 : decode cX2_gateOnTrail 27 = .ok (.aload_n 0, 1) := dk_42 (dk_at dksX2_gateOnTrail_1 4 rfl rfl)
theorem dX2_gateOnTrail_28 : decode cX2_gateOnTrail 28 = .ok (.getfield 21, 3) := dk_180 0 21 (dk_at dksX2_gateOnTrail_1 5 rfl rfl)
theorem dX2_gateOnTrail_31 : decode cX2_gateOnTrail 31 = .ok (.iconst 3, 1) := dk_6 (dk_at dksX2_gateOnTrail_1 8 rfl rfl)
theorem dX2_gateOnTrail_32 : decode cX2_gateOnTrail 32 = .ok (.newarray .int, 2) := dk_188_10 (dk_at dksX2_gateOnTrail_1 9 rfl rfl)
theorem dX2_gateOnTrail_34 : decode cX2_gateOnTrail 34 = .ok (.dup, 1) := dk_89 (dk_at dksX2_gateOnTrail_1 11 rfl rfl)
theorem dX2_gateOnTrail_35 : decode cX2_gateOnTrail 35 = .ok (.iconst 0, 1) := dk_3 (dk_at dksX2_gateOnTrail_1 12 rfl rfl)
theorem dX2_gateOnTrail_36 : decode cX2_gateOnTrail 36 = .ok (.iload_n 1, 1) := dk_27 (dk_at dksX2_gateOnTrail_1 13 rfl rfl)
theorem dX2_gateOnTrail_37 : decode cX2_gateOnTrail 37 = .ok (.iastore, 1) := dk_79 (dk_at dksX2_gateOnTrail_1 14 rfl rfl)
theorem dX2_gateOnTrail_38 : decode cX2_gateOnTrail 38 = .ok (.dup, 1) := dk_89 (dk_at dksX2_gateOnTrail_1 15 rfl rfl)
theorem dX2_gateOnTrail_39 : decode cX2_gateOnTrail 39 = .ok (.iconst 1, 1) := dk_4 (dk_at dksX2_gateOnTrail_1 16 rfl rfl)
theorem dX2_gateOnTrail_40 : decode cX2_gateOnTrail 40 = .ok (.iload_n 2, 1) := dk_28 (dk_at dksX2_gateOnTrail_1 17 rfl rfl)
theorem dX2_gateOnTrail_41 : decode cX2_gateOnTrail 41 = .ok (.iastore, 1) := dk_79 (dk_at dksX2_gateOnTrail_1 18 rfl rfl)
theorem dX2_gateOnTrail_42 : decode cX2_gateOnTrail 42 = .ok (.dup, 1) := dk_89 (dk_at dksX2_gateOnTrail_1 19 rfl rfl)
theorem dX2_gateOnTrail_43 : decode cX2_gateOnTrail 43 = .ok (.iconst 2, 1) := dk_5 (dk_at dksX2_gateOnTrail_1 20 rfl rfl)
theorem dX2_gateOnTrail_44 : decode cX2_gateOnTrail 44 = .ok (.iload_n 3, 1) := dk_29 (dk_at dksX2_gateOnTrail_1 21 rfl rfl)
theorem dX2_gateOnTrail_45 : decode cX2_gateOnTrail 45 = .ok (.iastore, 1) := dk_79 (dk_at dksX2_gateOnTrail_1 22 rfl rfl)
theorem dX2_gateOnTrail_46 : decode cX2_gateOnTrail 46 = .ok (.invokevirtual 74, 3) := dk_182 0 74 (dk_at dksX2_gateOnTrail_2 0 rfl rfl)
theorem dX2_gateOnTrail_49 : decode cX2_gateOnTrail 49 = .ok (.return_, 1) := dk_177 (dk_at dksX2_gateOnTrail_2 3 rfl rfl)
abbrev cX2_gate : ByteArray := prog_11_method_4_code
def yX2_gate : MethodName := ⟨RX2, "gate", "(III)V"⟩
def dkwX2_gate_0 : List UInt8 := [42, 180, 0, 34, 27, 28, 29, 182, 0, 94, 42, 89, 180, 0, 87, 4, 96, 181, 0, 87, 177]
abbrev dktX2_gate_0 : List UInt8 := dkwX2_gate_0 ++ []
theorem dksX2_gate_0 : cX2_gate.data.toList.drop 0 = dktX2_gate_0 := by decide +kernel
theorem dX2_gate_0 : decode cX2_gate 0 = .ok (.aload_n 0, 1) := dk_42 (dk_at dksX2_gate_0 0 rfl rfl)
theorem dX2_gate_1 : decode cX2_gate 1 = .ok (.getfield 34, 3) := dk_180 0 34 (dk_at dksX2_gate_0 1 rfl rfl)
theorem dX2_gate_4 : decode cX2_gate 4 = .ok (.iload_n 1, 1) := dk_27 (dk_at dksX2_gate_0 4 rfl rfl)
theorem dX2_gate_5 : decode cX2_gate 5 = .ok (.iload_n 2, 1) := dk_28 (dk_at dksX2_gate_0 5 rfl rfl)
theorem dX2_gate_6 : decode cX2_gate 6 = .ok (.iload_n 3, 1) := dk_29 (dk_at dksX2_gate_0 6 rfl rfl)
theorem dX2_gate_7 : decode cX2_gate 7 = .ok (.invokevirtual 94, 3) := dk_182 0 94 (dk_at dksX2_gate_0 7 rfl rfl)
theorem dX2_gate_10 : decode cX2_gate 10 = .ok (.aload_n 0, 1) := dk_42 (dk_at dksX2_gate_0 10 rfl rfl)
theorem dX2_gate_11 : decode cX2_gate 11 = .ok (.dup, 1) := dk_89 (dk_at dksX2_gate_0 11 rfl rfl)
theorem dX2_gate_12 : decode cX2_gate 12 = .ok (.getfield 87, 3) := dk_180 0 87 (dk_at dksX2_gate_0 12 rfl rfl)
theorem dX2_gate_15 : decode cX2_gate 15 = .ok (.iconst 1, 1) := dk_4 (dk_at dksX2_gate_0 15 rfl rfl)
theorem dX2_gate_16 : decode cX2_gate 16 = .ok (.iadd, 1) := dk_96 (dk_at dksX2_gate_0 16 rfl rfl)
theorem dX2_gate_17 : decode cX2_gate 17 = .ok (.putfield 87, 3) := dk_181 0 87 (dk_at dksX2_gate_0 17 rfl rfl)
theorem dX2_gate_20 : decode cX2_gate 20 = .ok (.return_, 1) := dk_177 (dk_at dksX2_gate_0 20 rfl rfl)
abbrev cX2_measure : ByteArray := prog_11_method_8_code
def yX2_measure : MethodName := ⟨RX2, "measure", "(LStringTableau$Row;I)I"⟩
def dkwX2_measure_3 : List UInt8 := [172]
abbrev dktX2_measure_3 : List UInt8 := dkwX2_measure_3 ++ []
def dkwX2_measure_2 : List UInt8 := [187, 0, 133, 89, 29, 21, 4, 183, 0, 135, 185, 0, 138, 2, 0, 87, 42, 180, 0, 21, 182, 0, 142, 29]
abbrev dktX2_measure_2 : List UInt8 := dkwX2_measure_2 ++ dktX2_measure_3
def dkwX2_measure_1 : List UInt8 := [154, 0, 10, 42, 182, 0, 126, 167, 0, 4, 28, 62, 42, 43, 29, 182, 0, 129, 42, 180, 0, 12]
abbrev dktX2_measure_1 : List UInt8 := dkwX2_measure_1 ++ dktX2_measure_2
def dkwX2_measure_0 : List UInt8 := [42, 43, 182, 0, 122, 62, 29, 154, 0, 7, 4, 167, 0, 4, 3, 54, 4, 21, 4, 153, 0, 22, 28]
abbrev dktX2_measure_0 : List UInt8 := dkwX2_measure_0 ++ dktX2_measure_1
theorem dksX2_measure_0 : cX2_measure.data.toList.drop 0 = dktX2_measure_0 := by decide +kernel
theorem dksX2_measure_1 : cX2_measure.data.toList.drop 23 = dktX2_measure_1 := dk_seg dksX2_measure_0 23 rfl rfl
theorem dksX2_measure_2 : cX2_measure.data.toList.drop 45 = dktX2_measure_2 := dk_seg dksX2_measure_1 22 rfl rfl
theorem dksX2_measure_3 : cX2_measure.data.toList.drop 69 = dktX2_measure_3 := dk_seg dksX2_measure_2 24 rfl rfl
theorem dX2_measure_0 : decode cX2_measure 0 = .ok (.aload_n 0, 1) := dk_42 (dk_at dksX2_measure_0 0 rfl rfl)
theorem dX2_measure_1 : decode cX2_measure 1 = .ok (.aload_n 1, 1) := dk_43 (dk_at dksX2_measure_0 1 rfl rfl)
theorem dX2_measure_2 : decode cX2_measure 2 = .ok (.invokevirtual 122, 3) := dk_182 0 122 (dk_at dksX2_measure_0 2 rfl rfl)
theorem dX2_measure_5 : decode cX2_measure 5 = .ok (.istore_n 3, 1) := dk_62 (dk_at dksX2_measure_0 5 rfl rfl)
theorem dX2_measure_6 : decode cX2_measure 6 = .ok (.iload_n 3, 1) := dk_29 (dk_at dksX2_measure_0 6 rfl rfl)
theorem dX2_measure_7 : decode cX2_measure 7 = .ok (.ifCond .ne 7, 3) := dk_154 0 7 (dk_at dksX2_measure_0 7 rfl rfl)
theorem dX2_measure_10 : decode cX2_measure 10 = .ok (.iconst 1, 1) := dk_4 (dk_at dksX2_measure_0 10 rfl rfl)
theorem dX2_measure_11 : decode cX2_measure 11 = .ok (.goto 4, 3) := dk_167 0 4 (dk_at dksX2_measure_0 11 rfl rfl)
theorem dX2_measure_14 : decode cX2_measure 14 = .ok (.iconst 0, 1) := dk_3 (dk_at dksX2_measure_0 14 rfl rfl)
theorem dX2_measure_15 : decode cX2_measure 15 = .ok (.istore 4, 2) := dk_54 4 (dk_at dksX2_measure_0 15 rfl rfl)
theorem dX2_measure_17 : decode cX2_measure 17 = .ok (.iload 4, 2) := dk_21 4 (dk_at dksX2_measure_0 17 rfl rfl)
theorem dX2_measure_19 : decode cX2_measure 19 = .ok (.ifCond .eq 22, 3) := dk_153 0 22 (dk_at dksX2_measure_0 19 rfl rfl)
theorem dX2_measure_22 : decode cX2_measure 22 = .ok (.iload_n 2, 1) := dk_28 (dk_at dksX2_measure_0 22 rfl rfl)
theorem dX2_measure_23 : decode cX2_measure 23 = .ok (.ifCond .ne 10, 3) := dk_154 0 10 (dk_at dksX2_measure_1 0 rfl rfl)
theorem dX2_measure_26 : decode cX2_measure 26 = .ok (.aload_n 0, 1) := dk_42 (dk_at dksX2_measure_1 3 rfl rfl)
theorem dX2_measure_27 : decode cX2_measure 27 = .ok (.invokevirtual 126, 3) := dk_182 0 126 (dk_at dksX2_measure_1 4 rfl rfl)
theorem dX2_measure_30 : decode cX2_measure 30 = .ok (.goto 4, 3) := dk_167 0 4 (dk_at dksX2_measure_1 7 rfl rfl)
theorem dX2_measure_33 : decode cX2_measure 33 = .ok (.iload_n 2, 1) := dk_28 (dk_at dksX2_measure_1 10 rfl rfl)
theorem dX2_measure_34 : decode cX2_measure 34 = .ok (.istore_n 3, 1) := dk_62 (dk_at dksX2_measure_1 11 rfl rfl)
theorem dX2_measure_35 : decode cX2_measure 35 = .ok (.aload_n 0, 1) := dk_42 (dk_at dksX2_measure_1 12 rfl rfl)
theorem dX2_measure_36 : decode cX2_measure 36 = .ok (.aload_n 1, 1) := dk_43 (dk_at dksX2_measure_1 13 rfl rfl)
theorem dX2_measure_37 : decode cX2_measure 37 = .ok (.iload_n 3, 1) := dk_29 (dk_at dksX2_measure_1 14 rfl rfl)
theorem dX2_measure_38 : decode cX2_measure 38 = .ok (.invokevirtual 129, 3) := dk_182 0 129 (dk_at dksX2_measure_1 15 rfl rfl)
theorem dX2_measure_41 : decode cX2_measure 41 = .ok (.aload_n 0, 1) := dk_42 (dk_at dksX2_measure_1 18 rfl rfl)
theorem dX2_measure_42 : decode cX2_measure 42 = .ok (.getfield 12, 3) := dk_180 0 12 (dk_at dksX2_measure_1 19 rfl rfl)
theorem dX2_measure_45 : decode cX2_measure 45 = .ok (.new 133, 3) := dk_187 0 133 (dk_at dksX2_measure_2 0 rfl rfl)
theorem dX2_measure_48 : decode cX2_measure 48 = .ok (.dup, 1) := dk_89 (dk_at dksX2_measure_2 3 rfl rfl)
theorem dX2_measure_49 : decode cX2_measure 49 = .ok (.iload_n 3, 1) := dk_29 (dk_at dksX2_measure_2 4 rfl rfl)
theorem dX2_measure_50 : decode cX2_measure 50 = .ok (.iload 4, 2) := dk_21 4 (dk_at dksX2_measure_2 5 rfl rfl)
theorem dX2_measure_52 : decode cX2_measure 52 = .ok (.invokespecial 135, 3) := dk_183 0 135 (dk_at dksX2_measure_2 7 rfl rfl)
theorem dX2_measure_55 : decode cX2_measure 55 = .ok (.invokeinterface 138 2, 5) := by decide +kernel
theorem dX2_measure_60 : decode cX2_measure 60 = .ok (.pop, 1) := dk_87 (dk_at dksX2_measure_2 15 rfl rfl)
theorem dX2_measure_61 : decode cX2_measure 61 = .ok (.aload_n 0, 1) := dk_42 (dk_at dksX2_measure_2 16 rfl rfl)
theorem dX2_measure_62 : decode cX2_measure 62 = .ok (.getfield 21, 3) := dk_180 0 21 (dk_at dksX2_measure_2 17 rfl rfl)
theorem dX2_measure_65 : decode cX2_measure 65 = .ok (.invokevirtual 142, 3) := dk_182 0 142 (dk_at dksX2_measure_2 20 rfl rfl)
theorem dX2_measure_68 : decode cX2_measure 68 = .ok (.iload_n 3, 1) := dk_29 (dk_at dksX2_measure_2 23 rfl rfl)
theorem dX2_measure_69 : decode cX2_measure 69 = .ok (.ireturn, 1) := dk_172 (dk_at dksX2_measure_3 0 rfl rfl)
abbrev cX2_draw : ByteArray := prog_11_method_3_code
def yX2_draw : MethodName := ⟨RX2, "draw", "()I"⟩
def dkwX2_draw_1 : List UInt8 := [122, 4, 126, 154, 0, 7, 4, 167, 0, 4, 2, 172]
abbrev dktX2_draw_1 : List UInt8 := dkwX2_draw_1 ++ []
def dkwX2_draw_0 : List UInt8 := [42, 42, 180, 0, 38, 18, 90, 104, 17, 48, 57, 96, 18, 93, 126, 181, 0, 38, 42, 180, 0, 38, 16, 16]
abbrev dktX2_draw_0 : List UInt8 := dkwX2_draw_0 ++ dktX2_draw_1
theorem dksX2_draw_0 : cX2_draw.data.toList.drop 0 = dktX2_draw_0 := by decide +kernel
theorem dksX2_draw_1 : cX2_draw.data.toList.drop 24 = dktX2_draw_1 := dk_seg dksX2_draw_0 24 rfl rfl
theorem dX2_draw_0 : decode cX2_draw 0 = .ok (.aload_n 0, 1) := dk_42 (dk_at dksX2_draw_0 0 rfl rfl)
theorem dX2_draw_1 : decode cX2_draw 1 = .ok (.aload_n 0, 1) := dk_42 (dk_at dksX2_draw_0 1 rfl rfl)
theorem dX2_draw_2 : decode cX2_draw 2 = .ok (.getfield 38, 3) := dk_180 0 38 (dk_at dksX2_draw_0 2 rfl rfl)
theorem dX2_draw_5 : decode cX2_draw 5 = .ok (.ldc 90, 2) := dk_18 90 (dk_at dksX2_draw_0 5 rfl rfl)
theorem dX2_draw_7 : decode cX2_draw 7 = .ok (.imul, 1) := dk_104 (dk_at dksX2_draw_0 7 rfl rfl)
theorem dX2_draw_8 : decode cX2_draw 8 = .ok (.sipush 12345, 3) := dk_17 48 57 (dk_at dksX2_draw_0 8 rfl rfl)
theorem dX2_draw_11 : decode cX2_draw 11 = .ok (.iadd, 1) := dk_96 (dk_at dksX2_draw_0 11 rfl rfl)
theorem dX2_draw_12 : decode cX2_draw 12 = .ok (.ldc 93, 2) := dk_18 93 (dk_at dksX2_draw_0 12 rfl rfl)
theorem dX2_draw_14 : decode cX2_draw 14 = .ok (.iand, 1) := dk_126 (dk_at dksX2_draw_0 14 rfl rfl)
theorem dX2_draw_15 : decode cX2_draw 15 = .ok (.putfield 38, 3) := dk_181 0 38 (dk_at dksX2_draw_0 15 rfl rfl)
theorem dX2_draw_18 : decode cX2_draw 18 = .ok (.aload_n 0, 1) := dk_42 (dk_at dksX2_draw_0 18 rfl rfl)
theorem dX2_draw_19 : decode cX2_draw 19 = .ok (.getfield 38, 3) := dk_180 0 38 (dk_at dksX2_draw_0 19 rfl rfl)
theorem dX2_draw_22 : decode cX2_draw 22 = .ok (.bipush 16, 2) := dk_16 16 (dk_at dksX2_draw_0 22 rfl rfl)
theorem dX2_draw_24 : decode cX2_draw 24 = .ok (.ishr, 1) := dk_122 (dk_at dksX2_draw_1 0 rfl rfl)
theorem dX2_draw_25 : decode cX2_draw 25 = .ok (.iconst 1, 1) := dk_4 (dk_at dksX2_draw_1 1 rfl rfl)
theorem dX2_draw_26 : decode cX2_draw 26 = .ok (.iand, 1) := dk_126 (dk_at dksX2_draw_1 2 rfl rfl)
theorem dX2_draw_27 : decode cX2_draw 27 = .ok (.ifCond .ne 7, 3) := dk_154 0 7 (dk_at dksX2_draw_1 3 rfl rfl)
theorem dX2_draw_30 : decode cX2_draw 30 = .ok (.iconst 1, 1) := dk_4 (dk_at dksX2_draw_1 6 rfl rfl)
theorem dX2_draw_31 : decode cX2_draw 31 = .ok (.goto 4, 3) := dk_167 0 4 (dk_at dksX2_draw_1 7 rfl rfl)
theorem dX2_draw_34 : decode cX2_draw 34 = .ok (.iconst (-1), 1) := dk_2 (dk_at dksX2_draw_1 10 rfl rfl)
theorem dX2_draw_35 : decode cX2_draw 35 = .ok (.ireturn, 1) := dk_172 (dk_at dksX2_draw_1 11 rfl rfl)
abbrev cX2_replace : ByteArray := prog_11_method_9_code
def yX2_replace : MethodName := ⟨RX2, "replace", "(LStringTableau$Row;I)V"⟩
def dkwX2_replace_5 : List UInt8 := [83, 177]
abbrev dktX2_replace_5 : List UInt8 := dkwX2_replace_5 ++ []
def dkwX2_replace_4 : List UInt8 := [180, 0, 157, 28, 2, 160, 0, 7, 4, 167, 0, 4, 3, 159, 0, 7, 4, 167, 0, 4, 3, 183, 0, 161]
abbrev dktX2_replace_4 : List UInt8 := dkwX2_replace_4 ++ dktX2_replace_5
def dkwX2_replace_3 : List UInt8 := [132, 5, 1, 167, 255, 217, 45, 21, 4, 187, 0, 107, 89, 43, 180, 0, 106, 43, 180, 0, 111, 43]
abbrev dktX2_replace_3 : List UInt8 := dkwX2_replace_3 ++ dktX2_replace_4
def dkwX2_replace_2 : List UInt8 := [180, 0, 106, 43, 180, 0, 111, 182, 0, 149, 154, 0, 14, 45, 21, 5, 50, 45, 21, 4, 50, 182, 0, 153]
abbrev dktX2_replace_2 : List UInt8 := dkwX2_replace_2 ++ dktX2_replace_3
def dkwX2_replace_1 : List UInt8 := [184, 0, 145, 54, 4, 21, 4, 4, 96, 54, 5, 21, 5, 45, 190, 162, 0, 38, 45, 21, 5, 50, 43]
abbrev dktX2_replace_1 : List UInt8 := dkwX2_replace_1 ++ dktX2_replace_2
def dkwX2_replace_0 : List UInt8 := [42, 180, 0, 34, 180, 0, 42, 78, 42, 180, 0, 34, 43, 180, 0, 106, 43, 180, 0, 111, 182, 0, 114]
abbrev dktX2_replace_0 : List UInt8 := dkwX2_replace_0 ++ dktX2_replace_1
theorem dksX2_replace_0 : cX2_replace.data.toList.drop 0 = dktX2_replace_0 := by decide +kernel
theorem dksX2_replace_1 : cX2_replace.data.toList.drop 23 = dktX2_replace_1 := dk_seg dksX2_replace_0 23 rfl rfl
theorem dksX2_replace_2 : cX2_replace.data.toList.drop 46 = dktX2_replace_2 := dk_seg dksX2_replace_1 23 rfl rfl
theorem dksX2_replace_3 : cX2_replace.data.toList.drop 70 = dktX2_replace_3 := dk_seg dksX2_replace_2 24 rfl rfl
theorem dksX2_replace_4 : cX2_replace.data.toList.drop 92 = dktX2_replace_4 := dk_seg dksX2_replace_3 22 rfl rfl
theorem dksX2_replace_5 : cX2_replace.data.toList.drop 116 = dktX2_replace_5 := dk_seg dksX2_replace_4 24 rfl rfl
theorem dX2_replace_0 : decode cX2_replace 0 = .ok (.aload_n 0, 1) := dk_42 (dk_at dksX2_replace_0 0 rfl rfl)
theorem dX2_replace_1 : decode cX2_replace 1 = .ok (.getfield 34, 3) := dk_180 0 34 (dk_at dksX2_replace_0 1 rfl rfl)
theorem dX2_replace_4 : decode cX2_replace 4 = .ok (.getfield 42, 3) := dk_180 0 42 (dk_at dksX2_replace_0 4 rfl rfl)
theorem dX2_replace_7 : decode cX2_replace 7 = .ok (.astore_n 3, 1) := dk_78 (dk_at dksX2_replace_0 7 rfl rfl)
theorem dX2_replace_8 : decode cX2_replace 8 = .ok (.aload_n 0, 1) := dk_42 (dk_at dksX2_replace_0 8 rfl rfl)
theorem dX2_replace_9 : decode cX2_replace 9 = .ok (.getfield 34, 3) := dk_180 0 34 (dk_at dksX2_replace_0 9 rfl rfl)
theorem dX2_replace_12 : decode cX2_replace 12 = .ok (.aload_n 1, 1) := dk_43 (dk_at dksX2_replace_0 12 rfl rfl)
theorem dX2_replace_13 : decode cX2_replace 13 = .ok (.getfield 106, 3) := dk_180 0 106 (dk_at dksX2_replace_0 13 rfl rfl)
theorem dX2_replace_16 : decode cX2_replace 16 = .ok (.aload_n 1, 1) := dk_43 (dk_at dksX2_replace_0 16 rfl rfl)
theorem dX2_replace_17 : decode cX2_replace 17 = .ok (.getfield 111, 3) := dk_180 0 111 (dk_at dksX2_replace_0 17 rfl rfl)
theorem dX2_replace_20 : decode cX2_replace 20 = .ok (.invokevirtual 114, 3) := dk_182 0 114 (dk_at dksX2_replace_0 20 rfl rfl)
theorem dX2_replace_23 : decode cX2_replace 23 = .ok (.invokestatic 145, 3) := dk_184 0 145 (dk_at dksX2_replace_1 0 rfl rfl)
theorem dX2_replace_26 : decode cX2_replace 26 = .ok (.istore 4, 2) := dk_54 4 (dk_at dksX2_replace_1 3 rfl rfl)
theorem dX2_replace_28 : decode cX2_replace 28 = .ok (.iload 4, 2) := dk_21 4 (dk_at dksX2_replace_1 5 rfl rfl)
theorem dX2_replace_30 : decode cX2_replace 30 = .ok (.iconst 1, 1) := dk_4 (dk_at dksX2_replace_1 7 rfl rfl)
theorem dX2_replace_31 : decode cX2_replace 31 = .ok (.iadd, 1) := dk_96 (dk_at dksX2_replace_1 8 rfl rfl)
theorem dX2_replace_32 : decode cX2_replace 32 = .ok (.istore 5, 2) := dk_54 5 (dk_at dksX2_replace_1 9 rfl rfl)
theorem dX2_replace_34 : decode cX2_replace 34 = .ok (.iload 5, 2) := dk_21 5 (dk_at dksX2_replace_1 11 rfl rfl)
theorem dX2_replace_36 : decode cX2_replace 36 = .ok (.aload_n 3, 1) := dk_45 (dk_at dksX2_replace_1 13 rfl rfl)
theorem dX2_replace_37 : decode cX2_replace 37 = .ok (.arraylength, 1) := dk_190 (dk_at dksX2_replace_1 14 rfl rfl)
theorem dX2_replace_38 : decode cX2_replace 38 = .ok (.if_icmp .ge 38, 3) := dk_162 0 38 (dk_at dksX2_replace_1 15 rfl rfl)
theorem dX2_replace_41 : decode cX2_replace 41 = .ok (.aload_n 3, 1) := dk_45 (dk_at dksX2_replace_1 18 rfl rfl)
theorem dX2_replace_42 : decode cX2_replace 42 = .ok (.iload 5, 2) := dk_21 5 (dk_at dksX2_replace_1 19 rfl rfl)
theorem dX2_replace_44 : decode cX2_replace 44 = .ok (.aaload, 1) := dk_50 (dk_at dksX2_replace_1 21 rfl rfl)
theorem dX2_replace_45 : decode cX2_replace 45 = .ok (.aload_n 1, 1) := dk_43 (dk_at dksX2_replace_1 22 rfl rfl)
theorem dX2_replace_46 : decode cX2_replace 46 = .ok (.getfield 106, 3) := dk_180 0 106 (dk_at dksX2_replace_2 0 rfl rfl)
theorem dX2_replace_49 : decode cX2_replace 49 = .ok (.aload_n 1, 1) := dk_43 (dk_at dksX2_replace_2 3 rfl rfl)
theorem dX2_replace_50 : decode cX2_replace 50 = .ok (.getfield 111, 3) := dk_180 0 111 (dk_at dksX2_replace_2 4 rfl rfl)
theorem dX2_replace_53 : decode cX2_replace 53 = .ok (.invokevirtual 149, 3) := dk_182 0 149 (dk_at dksX2_replace_2 7 rfl rfl)
theorem dX2_replace_56 : decode cX2_replace 56 = .ok (.ifCond .ne 14, 3) := dk_154 0 14 (dk_at dksX2_replace_2 10 rfl rfl)
theorem dX2_replace_59 : decode cX2_replace 59 = .ok (.aload_n 3, 1) := dk_45 (dk_at dksX2_replace_2 13 rfl rfl)
theorem dX2_replace_60 : decode cX2_replace 60 = .ok (.iload 5, 2) := dk_21 5 (dk_at dksX2_replace_2 14 rfl rfl)
theorem dX2_replace_62 : decode cX2_replace 62 = .ok (.aaload, 1) := dk_50 (dk_at dksX2_replace_2 16 rfl rfl)
theorem dX2_replace_63 : decode cX2_replace 63 = .ok (.aload_n 3, 1) := dk_45 (dk_at dksX2_replace_2 17 rfl rfl)
theorem dX2_replace_64 : decode cX2_replace 64 = .ok (.iload 4, 2) := dk_21 4 (dk_at dksX2_replace_2 18 rfl rfl)
theorem dX2_replace_66 : decode cX2_replace 66 = .ok (.aaload, 1) := dk_50 (dk_at dksX2_replace_2 20 rfl rfl)
theorem dX2_replace_67 : decode cX2_replace 67 = .ok (.invokevirtual 153, 3) := dk_182 0 153 (dk_at dksX2_replace_2 21 rfl rfl)
theorem dX2_replace_70 : decode cX2_replace 70 = .ok (.iinc 5 1, 3) := dk_132 5 1 (dk_at dksX2_replace_3 0 rfl rfl)
theorem dX2_replace_73 : decode cX2_replace 73 = .ok (.goto (-39), 3) := dk_167 255 217 (dk_at dksX2_replace_3 3 rfl rfl)
theorem dX2_replace_76 : decode cX2_replace 76 = .ok (.aload_n 3, 1) := dk_45 (dk_at dksX2_replace_3 6 rfl rfl)
theorem dX2_replace_77 : decode cX2_replace 77 = .ok (.iload 4, 2) := dk_21 4 (dk_at dksX2_replace_3 7 rfl rfl)
theorem dX2_replace_79 : decode cX2_replace 79 = .ok (.new 107, 3) := dk_187 0 107 (dk_at dksX2_replace_3 9 rfl rfl)
theorem dX2_replace_82 : decode cX2_replace 82 = .ok (.dup, 1) := dk_89 (dk_at dksX2_replace_3 12 rfl rfl)
theorem dX2_replace_83 : decode cX2_replace 83 = .ok (.aload_n 1, 1) := dk_43 (dk_at dksX2_replace_3 13 rfl rfl)
theorem dX2_replace_84 : decode cX2_replace 84 = .ok (.getfield 106, 3) := dk_180 0 106 (dk_at dksX2_replace_3 14 rfl rfl)
theorem dX2_replace_87 : decode cX2_replace 87 = .ok (.aload_n 1, 1) := dk_43 (dk_at dksX2_replace_3 17 rfl rfl)
theorem dX2_replace_88 : decode cX2_replace 88 = .ok (.getfield 111, 3) := dk_180 0 111 (dk_at dksX2_replace_3 18 rfl rfl)
theorem dX2_replace_91 : decode cX2_replace 91 = .ok (.aload_n 1, 1) := dk_43 (dk_at dksX2_replace_3 21 rfl rfl)
theorem dX2_replace_92 : decode cX2_replace 92 = .ok (.getfield 157, 3) := dk_180 0 157 (dk_at dksX2_replace_4 0 rfl rfl)
theorem dX2_replace_95 : decode cX2_replace 95 = .ok (.iload_n 2, 1) := dk_28 (dk_at dksX2_replace_4 3 rfl rfl)
theorem dX2_replace_96 : decode cX2_replace 96 = .ok (.iconst (-1), 1) := dk_2 (dk_at dksX2_replace_4 4 rfl rfl)
theorem dX2_replace_97 : decode cX2_replace 97 = .ok (.if_icmp .ne 7, 3) := dk_160 0 7 (dk_at dksX2_replace_4 5 rfl rfl)
theorem dX2_replace_100 : decode cX2_replace 100 = .ok (.iconst 1, 1) := dk_4 (dk_at dksX2_replace_4 8 rfl rfl)
theorem dX2_replace_101 : decode cX2_replace 101 = .ok (.goto 4, 3) := dk_167 0 4 (dk_at dksX2_replace_4 9 rfl rfl)
theorem dX2_replace_104 : decode cX2_replace 104 = .ok (.iconst 0, 1) := dk_3 (dk_at dksX2_replace_4 12 rfl rfl)
theorem dX2_replace_105 : decode cX2_replace 105 = .ok (.if_icmp .eq 7, 3) := dk_159 0 7 (dk_at dksX2_replace_4 13 rfl rfl)
theorem dX2_replace_108 : decode cX2_replace 108 = .ok (.iconst 1, 1) := dk_4 (dk_at dksX2_replace_4 16 rfl rfl)
theorem dX2_replace_109 : decode cX2_replace 109 = .ok (.goto 4, 3) := dk_167 0 4 (dk_at dksX2_replace_4 17 rfl rfl)
theorem dX2_replace_112 : decode cX2_replace 112 = .ok (.iconst 0, 1) := dk_3 (dk_at dksX2_replace_4 20 rfl rfl)
theorem dX2_replace_113 : decode cX2_replace 113 = .ok (.invokespecial 161, 3) := dk_183 0 161 (dk_at dksX2_replace_4 21 rfl rfl)
theorem dX2_replace_116 : decode cX2_replace 116 = .ok (.aastore, 1) := dk_83 (dk_at dksX2_replace_5 0 rfl rfl)
theorem dX2_replace_117 : decode cX2_replace 117 = .ok (.return_, 1) := dk_177 (dk_at dksX2_replace_5 1 rfl rfl)
theorem q121 : (Jvm.Cond.initialized "StringTableau$State") ∈ lw_all := lw_g (lw_at lw_m1 2 rfl) rfl
theorem q182 : (Jvm.Cond.instantiable "StringTableau$State" (7 : Nat)) ∈ lw_all := lw_g (lw_at lw_m1 63 rfl) rfl
theorem q184 : (Jvm.Cond.instanceMethod ({ cls := "StringTableau$State", name := "<init>", desc := "(II)V" } : Jvm.MethodName)) ∈ lw_all := lw_g (lw_at lw_m1 65 rfl) rfl
theorem q185 : (Jvm.Cond.code ({ cls := "StringTableau$State", name := "<init>", desc := "(II)V" } : Jvm.MethodName) prog_11_method_1_code (3 : Nat) (Option.none : Option Jvm.ClassFile.FieldType)) ∈ lw_all := lw_g (lw_at lw_m1 66 rfl) rfl
theorem q186 : (Jvm.Cond.methodLink "StringTableau$State" (3 : Nat) ({ cls := "java/lang/Object", name := "<init>", desc := "()V" } : Jvm.MethodName)) ∈ lw_all := lw_g (lw_at lw_m1 67 rfl) rfl
theorem q187 : (Jvm.Cond.classLink "StringTableau$State" (9 : Nat) "java/util/ArrayList") ∈ lw_all := lw_g (lw_at lw_m1 68 rfl) rfl
theorem q189 : (Jvm.Cond.methodLink "StringTableau$State" (11 : Nat) ({ cls := "java/util/ArrayList", name := "<init>", desc := "()V" } : Jvm.MethodName)) ∈ lw_all := lw_g (lw_at lw_m1 70 rfl) rfl
theorem q213 : (Jvm.Cond.classLink "StringTableau$State" (18 : Nat) "java/util/ArrayDeque") ∈ lw_all := lw_g (lw_at lw_m1 94 rfl) rfl
theorem q215 : (Jvm.Cond.methodLink "StringTableau$State" (20 : Nat) ({ cls := "java/util/ArrayDeque", name := "<init>", desc := "()V" } : Jvm.MethodName)) ∈ lw_all := lw_g (lw_at lw_m1 96 rfl) rfl
theorem q233 : (Jvm.Cond.classLink "StringTableau$State" (29 : Nat) "StringTableau$Tableau") ∈ lw_all := lw_g (lw_at lw_m1 114 rfl) rfl
theorem q235 : (Jvm.Cond.methodLink "StringTableau$State" (31 : Nat) ({ cls := "StringTableau$Tableau", name := "<init>", desc := "(I)V" } : Jvm.MethodName)) ∈ lw_all := lw_g (lw_at lw_m1 116 rfl) rfl
theorem q248 : (Jvm.Cond.fieldLinkNest "StringTableau$State" (106 : Nat) "StringTableau$Row" "x" "I" "StringTableau") ∈ lw_tbl := lw_at lw_m1 129 rfl
theorem q253 : (Jvm.Cond.fieldLinkNest "StringTableau$State" (111 : Nat) "StringTableau$Row" "z" "I" "StringTableau") ∈ lw_tbl := lw_at lw_m1 134 rfl
theorem q258 : (Jvm.Cond.fieldLinkNest "StringTableau$State" (157 : Nat) "StringTableau$Row" "minus" "Z" "StringTableau") ∈ lw_tbl := lw_at lw_m1 139 rfl
theorem q269 : (Jvm.Cond.fieldLinkNest "StringTableau$State" (42 : Nat) "StringTableau$Tableau" "rows" "[LStringTableau$Row;" "StringTableau") ∈ lw_tbl := lw_at lw_m1 150 rfl
theorem q275 : (Jvm.Cond.fieldLink "StringTableau$State" (34 : Nat) "StringTableau$State" "tableau" "LStringTableau$Tableau;") ∈ lw_all := lw_g (lw_at lw_m1 156 rfl) rfl
theorem q277 : (Jvm.Cond.fieldLink "StringTableau$State" (12 : Nat) "StringTableau$State" "records" "Ljava/util/List;") ∈ lw_all := lw_g (lw_at lw_m1 158 rfl) rfl
theorem q279 : (Jvm.Cond.fieldLink "StringTableau$State" (21 : Nat) "StringTableau$State" "trail" "Ljava/util/ArrayDeque;") ∈ lw_all := lw_g (lw_at lw_m1 160 rfl) rfl
theorem q281 : (Jvm.Cond.fieldLink "StringTableau$State" (25 : Nat) "StringTableau$State" "outcomes" "[I") ∈ lw_all := lw_g (lw_at lw_m1 162 rfl) rfl
theorem q284 : (Jvm.Cond.fieldLink "StringTableau$State" (38 : Nat) "StringTableau$State" "lot" "I") ∈ lw_all := lw_g (lw_at lw_m1 165 rfl) rfl
theorem q285 : (Jvm.Cond.fieldLink "StringTableau$State" (84 : Nat) "StringTableau$State" "place" "I") ∈ lw_all := lw_g (lw_at lw_m1 166 rfl) rfl
theorem q287 : (Jvm.Cond.fieldLink "StringTableau$State" (87 : Nat) "StringTableau$State" "gates" "I") ∈ lw_all := lw_g (lw_at lw_m1 168 rfl) rfl
theorem q289 : (Jvm.Cond.lays "StringTableau$State" "StringTableau$State" "tableau" "LStringTableau$Tableau;") ∈ lw_all := lw_g (lw_at lw_m1 170 rfl) rfl
theorem q290 : (Jvm.Cond.soleField "StringTableau$State" "tableau") ∈ lw_all := lw_g (lw_at lw_m1 171 rfl) rfl
theorem q291 : (Jvm.Cond.laysFinal "StringTableau$State" "StringTableau$State" "records" "Ljava/util/List;") ∈ lw_all := lw_g (lw_at lw_m1 172 rfl) rfl
theorem q292 : (Jvm.Cond.soleField "StringTableau$State" "records") ∈ lw_all := lw_g (lw_at lw_m1 173 rfl) rfl
theorem q293 : (Jvm.Cond.laysFinal "StringTableau$State" "StringTableau$State" "trail" "Ljava/util/ArrayDeque;") ∈ lw_all := lw_g (lw_at lw_m1 174 rfl) rfl
theorem q294 : (Jvm.Cond.soleField "StringTableau$State" "trail") ∈ lw_all := lw_g (lw_at lw_m1 175 rfl) rfl
theorem q295 : (Jvm.Cond.laysFinal "StringTableau$State" "StringTableau$State" "outcomes" "[I") ∈ lw_all := lw_g (lw_at lw_m1 176 rfl) rfl
theorem q296 : (Jvm.Cond.soleField "StringTableau$State" "outcomes") ∈ lw_all := lw_g (lw_at lw_m1 177 rfl) rfl
theorem q297 : (Jvm.Cond.lays "StringTableau$State" "StringTableau$State" "lot" "I") ∈ lw_all := lw_g (lw_at lw_m1 178 rfl) rfl
theorem q298 : (Jvm.Cond.soleField "StringTableau$State" "lot") ∈ lw_all := lw_g (lw_at lw_m1 179 rfl) rfl
theorem q299 : (Jvm.Cond.lays "StringTableau$State" "StringTableau$State" "place" "I") ∈ lw_all := lw_g (lw_at lw_m1 180 rfl) rfl
theorem q300 : (Jvm.Cond.soleField "StringTableau$State" "place") ∈ lw_all := lw_g (lw_at lw_m1 181 rfl) rfl
theorem q301 : (Jvm.Cond.lays "StringTableau$State" "StringTableau$State" "gates" "I") ∈ lw_all := lw_g (lw_at lw_m1 182 rfl) rfl
theorem q302 : (Jvm.Cond.soleField "StringTableau$State" "gates") ∈ lw_all := lw_g (lw_at lw_m1 183 rfl) rfl
theorem q303 : (Jvm.Cond.superclass "StringTableau$State" "java/lang/Object") ∈ lw_all := lw_g (lw_at lw_m1 184 rfl) rfl
theorem q1052 : (Jvm.Cond.selects "StringTableau$State" ({ cls := "java/lang/Object", name := "getClass", desc := "()Ljava/lang/Class;" } : Jvm.MethodName) ({ cls := "java/lang/Object", name := "getClass", desc := "()Ljava/lang/Class;" } : Jvm.MethodName)) ∈ lw_all := lw_g (lw_at lw_m4 213 rfl) rfl
theorem q1191 : (Jvm.Cond.instanceMethod ({ cls := "StringTableau$State", name := "canMeasure", desc := "(LStringTableau$Row;I)Z" } : Jvm.MethodName)) ∈ lw_all := lw_g (lw_at lw_m5 112 rfl) rfl
theorem q1192 : (Jvm.Cond.selects "StringTableau$State" ({ cls := "StringTableau$State", name := "canMeasure", desc := "(LStringTableau$Row;I)Z" } : Jvm.MethodName) ({ cls := "StringTableau$State", name := "canMeasure", desc := "(LStringTableau$Row;I)Z" } : Jvm.MethodName)) ∈ lw_all := lw_g (lw_at lw_m5 113 rfl) rfl
theorem q1193 : (Jvm.Cond.code ({ cls := "StringTableau$State", name := "canMeasure", desc := "(LStringTableau$Row;I)Z" } : Jvm.MethodName) prog_11_method_7_code (4 : Nat) (Option.some Jvm.ClassFile.FieldType.boolean)) ∈ lw_all := lw_g (lw_at lw_m5 114 rfl) rfl
theorem q1194 : (Jvm.Cond.methodLink "StringTableau$State" (122 : Nat) ({ cls := "StringTableau$State", name := "determined", desc := "(LStringTableau$Row;)I" } : Jvm.MethodName)) ∈ lw_all := lw_g (lw_at lw_m5 115 rfl) rfl
theorem q1195 : (Jvm.Cond.instanceMethod ({ cls := "StringTableau$State", name := "determined", desc := "(LStringTableau$Row;)I" } : Jvm.MethodName)) ∈ lw_all := lw_g (lw_at lw_m5 116 rfl) rfl
theorem q1196 : (Jvm.Cond.selects "StringTableau$State" ({ cls := "StringTableau$State", name := "determined", desc := "(LStringTableau$Row;)I" } : Jvm.MethodName) ({ cls := "StringTableau$State", name := "determined", desc := "(LStringTableau$Row;)I" } : Jvm.MethodName)) ∈ lw_all := lw_g (lw_at lw_m5 117 rfl) rfl
theorem q1197 : (Jvm.Cond.code ({ cls := "StringTableau$State", name := "determined", desc := "(LStringTableau$Row;)I" } : Jvm.MethodName) prog_11_method_6_code (2 : Nat) (Option.some Jvm.ClassFile.FieldType.int)) ∈ lw_all := lw_g (lw_at lw_m5 118 rfl) rfl
theorem q1198 : (Jvm.Cond.methodLink "StringTableau$State" (114 : Nat) ({ cls := "StringTableau$Tableau", name := "against", desc := "(II)I" } : Jvm.MethodName)) ∈ lw_all := lw_g (lw_at lw_m5 119 rfl) rfl
theorem q1215 : (Jvm.Cond.methodLink "StringTableau$State" (118 : Nat) ({ cls := "StringTableau$Tableau", name := "contains", desc := "(LStringTableau$Row;)I" } : Jvm.MethodName)) ∈ lw_all := lw_g (lw_at lw_m5 136 rfl) rfl
theorem q1241 : (Jvm.Cond.interfaceEntry "StringTableau$State" (125 : Nat)) ∈ lw_tbl := lw_at lw_m5 162 rfl
theorem q1242 : (Jvm.Cond.methodLink "StringTableau$State" (125 : Nat) ({ cls := "java/util/List", name := "size", desc := "()I" } : Jvm.MethodName)) ∈ lw_all := lw_g (lw_at lw_m5 163 rfl) rfl
theorem q1294 : (Jvm.Cond.instanceMethod ({ cls := "StringTableau$State", name := "copy", desc := "()LStringTableau$State;" } : Jvm.MethodName)) ∈ lw_all := lw_g (lw_at lw_m5 215 rfl) rfl
theorem q1295 : (Jvm.Cond.selects "StringTableau$State" ({ cls := "StringTableau$State", name := "copy", desc := "()LStringTableau$State;" } : Jvm.MethodName) ({ cls := "StringTableau$State", name := "copy", desc := "()LStringTableau$State;" } : Jvm.MethodName)) ∈ lw_all := lw_g (lw_at lw_m5 216 rfl) rfl
theorem q1296 : (Jvm.Cond.code ({ cls := "StringTableau$State", name := "copy", desc := "()LStringTableau$State;" } : Jvm.MethodName) prog_11_method_2_code (4 : Nat) (Option.some (Jvm.ClassFile.FieldType.object "StringTableau$State"))) ∈ lw_all := lw_g (lw_at lw_m5 217 rfl) rfl
theorem q1297 : (Jvm.Cond.classLink "StringTableau$State" (13 : Nat) "StringTableau$State") ∈ lw_all := lw_g (lw_at lw_m5 218 rfl) rfl
theorem q1298 : (Jvm.Cond.methodLink "StringTableau$State" (46 : Nat) ({ cls := "StringTableau$State", name := "<init>", desc := "(II)V" } : Jvm.MethodName)) ∈ lw_all := lw_g (lw_at lw_m5 219 rfl) rfl
theorem q1299 : (Jvm.Cond.methodLink "StringTableau$State" (49 : Nat) ({ cls := "StringTableau$Tableau", name := "copy", desc := "()LStringTableau$Tableau;" } : Jvm.MethodName)) ∈ lw_all := lw_g (lw_at lw_m5 220 rfl) rfl
theorem q1311 : (Jvm.Cond.interfaceEntry "StringTableau$State" (53 : Nat)) ∈ lw_tbl := lw_at lw_m5 232 rfl
theorem q1312 : (Jvm.Cond.methodLink "StringTableau$State" (53 : Nat) ({ cls := "java/util/List", name := "addAll", desc := "(Ljava/util/Collection;)Z" } : Jvm.MethodName)) ∈ lw_all := lw_g (lw_at lw_m5 233 rfl) rfl
theorem q1370 : (Jvm.Cond.methodLink "StringTableau$State" (59 : Nat) ({ cls := "java/util/ArrayDeque", name := "iterator", desc := "()Ljava/util/Iterator;" } : Jvm.MethodName)) ∈ lw_all := lw_g (lw_at lw_m6 51 rfl) rfl
theorem q1394 : (Jvm.Cond.interfaceEntry "StringTableau$State" (63 : Nat)) ∈ lw_tbl := lw_at lw_m6 75 rfl
theorem q1395 : (Jvm.Cond.methodLink "StringTableau$State" (63 : Nat) ({ cls := "java/util/Iterator", name := "hasNext", desc := "()Z" } : Jvm.MethodName)) ∈ lw_all := lw_g (lw_at lw_m6 76 rfl) rfl
theorem q1410 : (Jvm.Cond.interfaceEntry "StringTableau$State" (69 : Nat)) ∈ lw_tbl := lw_at lw_m6 91 rfl
theorem q1411 : (Jvm.Cond.methodLink "StringTableau$State" (69 : Nat) ({ cls := "java/util/Iterator", name := "next", desc := "()Ljava/lang/Object;" } : Jvm.MethodName)) ∈ lw_all := lw_g (lw_at lw_m6 92 rfl) rfl
theorem q1455 : (Jvm.Cond.classLink "StringTableau$State" (73 : Nat) "[I") ∈ lw_all := lw_g (lw_at lw_m6 136 rfl) rfl
theorem q1456 : (Jvm.Cond.methodLink "StringTableau$State" (74 : Nat) ({ cls := "java/util/ArrayDeque", name := "addLast", desc := "(Ljava/lang/Object;)V" } : Jvm.MethodName)) ∈ lw_all := lw_g (lw_at lw_m6 137 rfl) rfl
theorem q1457 : (Jvm.Cond.methodLink "StringTableau$State" (78 : Nat) ({ cls := "java/lang/System", name := "arraycopy", desc := "(Ljava/lang/Object;ILjava/lang/Object;II)V" } : Jvm.MethodName)) ∈ lw_all := lw_g (lw_at lw_m6 138 rfl) rfl
theorem q1469 : (Jvm.Cond.instanceMethod ({ cls := "StringTableau$State", name := "gateOnTrail", desc := "(III)V" } : Jvm.MethodName)) ∈ lw_all := lw_g (lw_at lw_m6 150 rfl) rfl
theorem q1470 : (Jvm.Cond.selects "StringTableau$State" ({ cls := "StringTableau$State", name := "gateOnTrail", desc := "(III)V" } : Jvm.MethodName) ({ cls := "StringTableau$State", name := "gateOnTrail", desc := "(III)V" } : Jvm.MethodName)) ∈ lw_all := lw_g (lw_at lw_m6 151 rfl) rfl
theorem q1471 : (Jvm.Cond.code ({ cls := "StringTableau$State", name := "gateOnTrail", desc := "(III)V" } : Jvm.MethodName) prog_11_method_5_code (4 : Nat) (Option.none : Option Jvm.ClassFile.FieldType)) ∈ lw_all := lw_g (lw_at lw_m6 152 rfl) rfl
theorem q1472 : (Jvm.Cond.methodLink "StringTableau$State" (98 : Nat) ({ cls := "StringTableau$State", name := "gate", desc := "(III)V" } : Jvm.MethodName)) ∈ lw_all := lw_g (lw_at lw_m6 153 rfl) rfl
theorem q1473 : (Jvm.Cond.instanceMethod ({ cls := "StringTableau$State", name := "gate", desc := "(III)V" } : Jvm.MethodName)) ∈ lw_all := lw_g (lw_at lw_m6 154 rfl) rfl
theorem q1474 : (Jvm.Cond.selects "StringTableau$State" ({ cls := "StringTableau$State", name := "gate", desc := "(III)V" } : Jvm.MethodName) ({ cls := "StringTableau$State", name := "gate", desc := "(III)V" } : Jvm.MethodName)) ∈ lw_all := lw_g (lw_at lw_m6 155 rfl) rfl
theorem q1475 : (Jvm.Cond.code ({ cls := "StringTableau$State", name := "gate", desc := "(III)V" } : Jvm.MethodName) prog_11_method_4_code (4 : Nat) (Option.none : Option Jvm.ClassFile.FieldType)) ∈ lw_all := lw_g (lw_at lw_m6 156 rfl) rfl
theorem q1476 : (Jvm.Cond.methodLink "StringTableau$State" (94 : Nat) ({ cls := "StringTableau$Tableau", name := "gate", desc := "(III)V" } : Jvm.MethodName)) ∈ lw_all := lw_g (lw_at lw_m6 157 rfl) rfl
theorem q1549 : (Jvm.Cond.methodLink "StringTableau$State" (99 : Nat) ({ cls := "java/util/ArrayDeque", name := "size", desc := "()I" } : Jvm.MethodName)) ∈ lw_all := lw_g (lw_at lw_m6 230 rfl) rfl
theorem q1550 : (Jvm.Cond.methodLink "StringTableau$State" (103 : Nat) ({ cls := "java/util/ArrayDeque", name := "removeFirst", desc := "()Ljava/lang/Object;" } : Jvm.MethodName)) ∈ lw_all := lw_g (lw_at lw_m6 231 rfl) rfl
theorem q1555 : (Jvm.Cond.instanceMethod ({ cls := "StringTableau$State", name := "measure", desc := "(LStringTableau$Row;I)I" } : Jvm.MethodName)) ∈ lw_all := lw_g (lw_at lw_m6 236 rfl) rfl
theorem q1556 : (Jvm.Cond.selects "StringTableau$State" ({ cls := "StringTableau$State", name := "measure", desc := "(LStringTableau$Row;I)I" } : Jvm.MethodName) ({ cls := "StringTableau$State", name := "measure", desc := "(LStringTableau$Row;I)I" } : Jvm.MethodName)) ∈ lw_all := lw_g (lw_at lw_m6 237 rfl) rfl
theorem q1557 : (Jvm.Cond.code ({ cls := "StringTableau$State", name := "measure", desc := "(LStringTableau$Row;I)I" } : Jvm.MethodName) prog_11_method_8_code (5 : Nat) (Option.some Jvm.ClassFile.FieldType.int)) ∈ lw_all := lw_g (lw_at lw_m6 238 rfl) rfl
theorem q1558 : (Jvm.Cond.methodLink "StringTableau$State" (126 : Nat) ({ cls := "StringTableau$State", name := "draw", desc := "()I" } : Jvm.MethodName)) ∈ lw_all := lw_g (lw_at lw_m6 239 rfl) rfl
theorem q1559 : (Jvm.Cond.privateMethod ({ cls := "StringTableau$State", name := "draw", desc := "()I" } : Jvm.MethodName)) ∈ lw_tbl := lw_at lw_m7 0 rfl
theorem q1560 : (Jvm.Cond.instanceMethod ({ cls := "StringTableau$State", name := "draw", desc := "()I" } : Jvm.MethodName)) ∈ lw_all := lw_g (lw_at lw_m7 1 rfl) rfl
theorem q1561 : (Jvm.Cond.code ({ cls := "StringTableau$State", name := "draw", desc := "()I" } : Jvm.MethodName) prog_11_method_3_code (1 : Nat) (Option.some Jvm.ClassFile.FieldType.int)) ∈ lw_all := lw_g (lw_at lw_m7 2 rfl) rfl
theorem q1562 : (Jvm.Cond.constant "StringTableau$State" (90 : Nat) (1103515245 : Int32)) ∈ lw_all := lw_g (lw_at lw_m7 3 rfl) rfl
theorem q1563 : (Jvm.Cond.constant "StringTableau$State" (93 : Nat) (2147483647 : Int32)) ∈ lw_all := lw_g (lw_at lw_m7 4 rfl) rfl
theorem q1564 : (Jvm.Cond.methodLink "StringTableau$State" (129 : Nat) ({ cls := "StringTableau$State", name := "replace", desc := "(LStringTableau$Row;I)V" } : Jvm.MethodName)) ∈ lw_all := lw_g (lw_at lw_m7 5 rfl) rfl
theorem q1565 : (Jvm.Cond.privateMethod ({ cls := "StringTableau$State", name := "replace", desc := "(LStringTableau$Row;I)V" } : Jvm.MethodName)) ∈ lw_tbl := lw_at lw_m7 6 rfl
theorem q1566 : (Jvm.Cond.instanceMethod ({ cls := "StringTableau$State", name := "replace", desc := "(LStringTableau$Row;I)V" } : Jvm.MethodName)) ∈ lw_all := lw_g (lw_at lw_m7 7 rfl) rfl
theorem q1567 : (Jvm.Cond.code ({ cls := "StringTableau$State", name := "replace", desc := "(LStringTableau$Row;I)V" } : Jvm.MethodName) prog_11_method_9_code (6 : Nat) (Option.none : Option Jvm.ClassFile.FieldType)) ∈ lw_all := lw_g (lw_at lw_m7 8 rfl) rfl
theorem q1568 : (Jvm.Cond.methodLink "StringTableau$State" (145 : Nat) ({ cls := "java/lang/Integer", name := "numberOfTrailingZeros", desc := "(I)I" } : Jvm.MethodName)) ∈ lw_all := lw_g (lw_at lw_m7 9 rfl) rfl
theorem q1572 : (Jvm.Cond.methodLink "StringTableau$State" (149 : Nat) ({ cls := "StringTableau$Row", name := "commutes", desc := "(II)Z" } : Jvm.MethodName)) ∈ lw_all := lw_g (lw_at lw_m7 13 rfl) rfl
theorem q1573 : (Jvm.Cond.methodLink "StringTableau$State" (153 : Nat) ({ cls := "StringTableau$Row", name := "multiply", desc := "(LStringTableau$Row;)V" } : Jvm.MethodName)) ∈ lw_all := lw_g (lw_at lw_m7 14 rfl) rfl
theorem q1574 : (Jvm.Cond.classLink "StringTableau$State" (107 : Nat) "StringTableau$Row") ∈ lw_all := lw_g (lw_at lw_m7 15 rfl) rfl
theorem q1575 : (Jvm.Cond.methodLink "StringTableau$State" (161 : Nat) ({ cls := "StringTableau$Row", name := "<init>", desc := "(IIZ)V" } : Jvm.MethodName)) ∈ lw_all := lw_g (lw_at lw_m7 16 rfl) rfl
theorem q1576 : (Jvm.Cond.classLink "StringTableau$State" (133 : Nat) "StringTableau$Record") ∈ lw_all := lw_g (lw_at lw_m7 17 rfl) rfl
theorem q1578 : (Jvm.Cond.methodLink "StringTableau$State" (135 : Nat) ({ cls := "StringTableau$Record", name := "<init>", desc := "(IZ)V" } : Jvm.MethodName)) ∈ lw_all := lw_g (lw_at lw_m7 19 rfl) rfl
theorem q1591 : (Jvm.Cond.interfaceEntry "StringTableau$State" (138 : Nat)) ∈ lw_tbl := lw_at lw_m7 32 rfl
theorem q1592 : (Jvm.Cond.methodLink "StringTableau$State" (138 : Nat) ({ cls := "java/util/List", name := "add", desc := "(Ljava/lang/Object;)Z" } : Jvm.MethodName)) ∈ lw_all := lw_g (lw_at lw_m7 33 rfl) rfl
theorem q1593 : (Jvm.Cond.methodLink "StringTableau$State" (142 : Nat) ({ cls := "java/util/ArrayDeque", name := "clear", desc := "()V" } : Jvm.MethodName)) ∈ lw_all := lw_g (lw_at lw_m7 34 rfl) rfl
theorem q2254 : (Jvm.Cond.selects "StringTableau$State" ({ cls := "java/lang/Object", name := "hashCode", desc := "()I" } : Jvm.MethodName) ({ cls := "java/lang/Object", name := "hashCode", desc := "()I" } : Jvm.MethodName)) ∈ lw_all := lw_g (lw_at lw_m9 215 rfl) rfl
theorem q2611 : (Jvm.Cond.selects "StringTableau$State" ({ cls := "java/lang/Object", name := "equals", desc := "(Ljava/lang/Object;)Z" } : Jvm.MethodName) ({ cls := "java/lang/Object", name := "equals", desc := "(Ljava/lang/Object;)Z" } : Jvm.MethodName)) ∈ lw_all := lw_g (lw_at lw_m11 92 rfl) rfl
theorem q3551 : (Jvm.Cond.castable "StringTableau$State" "java/lang/Object") ∈ lw_tbl := lw_at lw_m15 72 rfl
theorem in_X2 : ∀ w ∈ wsX20, w ∈ lw_all := lw_in wsX20 [289, 291, 293, 295, 297, 299, 301] (by decide +kernel) (by decide +kernel)

/-! StringTableau$Tableau -/
set_option maxRecDepth 100000
def RX3 : String := "StringTableau$Tableau"
def TX3 : u_T := fun k => match k with
  | _ => ("StringTableau$Tableau", "rows", "[LStringTableau$Row;", true)
def tyX3 : Nat → FieldType := fun k => match k with
  | _ => .array (.object "StringTableau$Row")
abbrev wsX30 : List Cond := u_ws RX3 TX3 1
theorem nmX3 : ∀ a, a < 1 → ∀ b, b < 1 → a ≠ b → (TX3 a).2.1 ≠ (TX3 b).2.1 := by decide +kernel
theorem tyX3_ok : ∀ k, k < 1 → parseFieldDescriptor (TX3 k).2.2.1 = some (tyX3 k) := by decide +kernel
abbrev cX3_init : ByteArray := prog_12_method_1_code
def yX3_init : MethodName := ⟨RX3, "<init>", "(I)V"⟩
def dkwX3_init_1 : List UInt8 := [187, 0, 9, 89, 3, 4, 28, 120, 3, 183, 0, 17, 83, 132, 2, 1, 167, 255, 230, 177]
abbrev dktX3_init_1 : List UInt8 := dkwX3_init_1 ++ []
def dkwX3_init_0 : List UInt8 := [42, 183, 0, 3, 42, 27, 189, 0, 9, 181, 0, 11, 3, 61, 28, 27, 162, 0, 27, 42, 180, 0, 11, 28]
abbrev dktX3_init_0 : List UInt8 := dkwX3_init_0 ++ dktX3_init_1
theorem dksX3_init_0 : cX3_init.data.toList.drop 0 = dktX3_init_0 := by decide +kernel
theorem dksX3_init_1 : cX3_init.data.toList.drop 24 = dktX3_init_1 := dk_seg dksX3_init_0 24 rfl rfl
theorem dX3_init_0 : decode cX3_init 0 = .ok (.aload_n 0, 1) := dk_42 (dk_at dksX3_init_0 0 rfl rfl)
theorem dX3_init_1 : decode cX3_init 1 = .ok (.invokespecial 3, 3) := dk_183 0 3 (dk_at dksX3_init_0 1 rfl rfl)
theorem dX3_init_4 : decode cX3_init 4 = .ok (.aload_n 0, 1) := dk_42 (dk_at dksX3_init_0 4 rfl rfl)
theorem dX3_init_5 : decode cX3_init 5 = .ok (.iload_n 1, 1) := dk_27 (dk_at dksX3_init_0 5 rfl rfl)
theorem dX3_init_6 : decode cX3_init 6 = .ok (.anewarray 9, 3) := dk_189 0 9 (dk_at dksX3_init_0 6 rfl rfl)
theorem dX3_init_9 : decode cX3_init 9 = .ok (.putfield 11, 3) := dk_181 0 11 (dk_at dksX3_init_0 9 rfl rfl)
theorem dX3_init_12 : decode cX3_init 12 = .ok (.iconst 0, 1) := dk_3 (dk_at dksX3_init_0 12 rfl rfl)
theorem dX3_init_13 : decode cX3_init 13 = .ok (.istore_n 2, 1) := dk_61 (dk_at dksX3_init_0 13 rfl rfl)
theorem dX3_init_14 : decode cX3_init 14 = .ok (.iload_n 2, 1) := dk_28 (dk_at dksX3_init_0 14 rfl rfl)
theorem dX3_init_15 : decode cX3_init 15 = .ok (.iload_n 1, 1) := dk_27 (dk_at dksX3_init_0 15 rfl rfl)
theorem dX3_init_16 : decode cX3_init 16 = .ok (.if_icmp .ge 27, 3) := dk_162 0 27 (dk_at dksX3_init_0 16 rfl rfl)
theorem dX3_init_19 : decode cX3_init 19 = .ok (.aload_n 0, 1) := dk_42 (dk_at dksX3_init_0 19 rfl rfl)
theorem dX3_init_20 : decode cX3_init 20 = .ok (.getfield 11, 3) := dk_180 0 11 (dk_at dksX3_init_0 20 rfl rfl)
theorem dX3_init_23 : decode cX3_init 23 = .ok (.iload_n 2, 1) := dk_28 (dk_at dksX3_init_0 23 rfl rfl)
theorem dX3_init_24 : decode cX3_init 24 = .ok (.new 9, 3) := dk_187 0 9 (dk_at dksX3_init_1 0 rfl rfl)
theorem dX3_init_27 : decode cX3_init 27 = .ok (.dup, 1) := dk_89 (dk_at dksX3_init_1 3 rfl rfl)
theorem dX3_init_28 : decode cX3_init 28 = .ok (.iconst 0, 1) := dk_3 (dk_at dksX3_init_1 4 rfl rfl)
theorem dX3_init_29 : decode cX3_init 29 = .ok (.iconst 1, 1) := dk_4 (dk_at dksX3_init_1 5 rfl rfl)
theorem dX3_init_30 : decode cX3_init 30 = .ok (.iload_n 2, 1) := dk_28 (dk_at dksX3_init_1 6 rfl rfl)
theorem dX3_init_31 : decode cX3_init 31 = .ok (.ishl, 1) := dk_120 (dk_at dksX3_init_1 7 rfl rfl)
theorem dX3_init_32 : decode cX3_init 32 = .ok (.iconst 0, 1) := dk_3 (dk_at dksX3_init_1 8 rfl rfl)
theorem dX3_init_33 : decode cX3_init 33 = .ok (.invokespecial 17, 3) := dk_183 0 17 (dk_at dksX3_init_1 9 rfl rfl)
theorem dX3_init_36 : decode cX3_init 36 = .ok (.aastore, 1) := dk_83 (dk_at dksX3_init_1 12 rfl rfl)
theorem dX3_init_37 : decode cX3_init 37 = .ok (.iinc 2 1, 3) := dk_132 2 1 (dk_at dksX3_init_1 13 rfl rfl)
theorem dX3_init_40 : decode cX3_init 40 = .ok (.goto (-26), 3) := dk_167 255 230 (dk_at dksX3_init_1 16 rfl rfl)
theorem dX3_init_43 : decode cX3_init 43 = .ok (.return_, 1) := dk_177 (dk_at dksX3_init_1 19 rfl rfl)
abbrev cX3_against : ByteArray := prog_12_method_5_code
def yX3_against : MethodName := ⟨RX3, "against", "(II)I"⟩
def dkwX3_against_1 : List UInt8 := [182, 0, 41, 154, 0, 10, 29, 4, 21, 4, 120, 128, 62, 132, 4, 1, 167, 255, 221, 29, 172]
abbrev dktX3_against_1 : List UInt8 := dkwX3_against_1 ++ []
def dkwX3_against_0 : List UInt8 := [3, 62, 3, 54, 4, 21, 4, 42, 180, 0, 11, 190, 162, 0, 31, 42, 180, 0, 11, 21, 4, 50, 27, 28]
abbrev dktX3_against_0 : List UInt8 := dkwX3_against_0 ++ dktX3_against_1
theorem dksX3_against_0 : cX3_against.data.toList.drop 0 = dktX3_against_0 := by decide +kernel
theorem dksX3_against_1 : cX3_against.data.toList.drop 24 = dktX3_against_1 := dk_seg dksX3_against_0 24 rfl rfl
theorem dX3_against_0 : decode cX3_against 0 = .ok (.iconst 0, 1) := dk_3 (dk_at dksX3_against_0 0 rfl rfl)
theorem dX3_against_1 : decode cX3_against 1 = .ok (.istore_n 3, 1) := dk_62 (dk_at dksX3_against_0 1 rfl rfl)
theorem dX3_against_2 : decode cX3_against 2 = .ok (.iconst 0, 1) := dk_3 (dk_at dksX3_against_0 2 rfl rfl)
theorem dX3_against_3 : decode cX3_against 3 = .ok (.istore 4, 2) := dk_54 4 (dk_at dksX3_against_0 3 rfl rfl)
theorem dX3_against_5 : decode cX3_against 5 = .ok (.iload 4, 2) := dk_21 4 (dk_at dksX3_against_0 5 rfl rfl)
theorem dX3_against_7 : decode cX3_against 7 = .ok (.aload_n 0, 1) := dk_42 (dk_at dksX3_against_0 7 rfl rfl)
theorem dX3_against_8 : decode cX3_against 8 = .ok (.getfield 11, 3) := dk_180 0 11 (dk_at dksX3_against_0 8 rfl rfl)
theorem dX3_against_11 : decode cX3_against 11 = .ok (.arraylength, 1) := dk_190 (dk_at dksX3_against_0 11 rfl rfl)
theorem dX3_against_12 : decode cX3_against 12 = .ok (.if_icmp .ge 31, 3) := dk_162 0 31 (dk_at dksX3_against_0 12 rfl rfl)
theorem dX3_against_15 : decode cX3_against 15 = .ok (.aload_n 0, 1) := dk_42 (dk_at dksX3_against_0 15 rfl rfl)
theorem dX3_against_16 : decode cX3_against 16 = .ok (.getfield 11, 3) := dk_180 0 11 (dk_at dksX3_against_0 16 rfl rfl)
theorem dX3_against_19 : decode cX3_against 19 = .ok (.iload 4, 2) := dk_21 4 (dk_at dksX3_against_0 19 rfl rfl)
theorem dX3_against_21 : decode cX3_against 21 = .ok (.aaload, 1) := dk_50 (dk_at dksX3_against_0 21 rfl rfl)
theorem dX3_against_22 : decode cX3_against 22 = .ok (.iload_n 1, 1) := dk_27 (dk_at dksX3_against_0 22 rfl rfl)
theorem dX3_against_23 : decode cX3_against 23 = .ok (.iload_n 2, 1) := dk_28 (dk_at dksX3_against_0 23 rfl rfl)
theorem dX3_against_24 : decode cX3_against 24 = .ok (.invokevirtual 41, 3) := dk_182 0 41 (dk_at dksX3_against_1 0 rfl rfl)
theorem dX3_against_27 : decode cX3_against 27 = .ok (.ifCond .ne 10, 3) := dk_154 0 10 (dk_at dksX3_against_1 3 rfl rfl)
theorem dX3_against_30 : decode cX3_against 30 = .ok (.iload_n 3, 1) := dk_29 (dk_at dksX3_against_1 6 rfl rfl)
theorem dX3_against_31 : decode cX3_against 31 = .ok (.iconst 1, 1) := dk_4 (dk_at dksX3_against_1 7 rfl rfl)
theorem dX3_against_32 : decode cX3_against 32 = .ok (.iload 4, 2) := dk_21 4 (dk_at dksX3_against_1 8 rfl rfl)
theorem dX3_against_34 : decode cX3_against 34 = .ok (.ishl, 1) := dk_120 (dk_at dksX3_against_1 10 rfl rfl)
theorem dX3_against_35 : decode cX3_against 35 = .ok (.ior, 1) := dk_128 (dk_at dksX3_against_1 11 rfl rfl)
theorem dX3_against_36 : decode cX3_against 36 = .ok (.istore_n 3, 1) := dk_62 (dk_at dksX3_against_1 12 rfl rfl)
theorem dX3_against_37 : decode cX3_against 37 = .ok (.iinc 4 1, 3) := dk_132 4 1 (dk_at dksX3_against_1 13 rfl rfl)
theorem dX3_against_40 : decode cX3_against 40 = .ok (.goto (-35), 3) := dk_167 255 221 (dk_at dksX3_against_1 16 rfl rfl)
theorem dX3_against_43 : decode cX3_against 43 = .ok (.iload_n 3, 1) := dk_29 (dk_at dksX3_against_1 19 rfl rfl)
theorem dX3_against_44 : decode cX3_against 44 = .ok (.ireturn, 1) := dk_172 (dk_at dksX3_against_1 20 rfl rfl)
abbrev cX3_contains : ByteArray := prog_12_method_10_code
def yX3_contains : MethodName := ⟨RX3, "contains", "(LStringTableau$Row;)I"⟩
def dkwX3_contains_1 : List UInt8 := [182, 0, 91, 180, 0, 71, 43, 180, 0, 71, 160, 0, 7, 4, 167, 0, 4, 2, 172]
abbrev dktX3_contains_1 : List UInt8 := dkwX3_contains_1 ++ []
def dkwX3_contains_0 : List UInt8 := [42, 43, 180, 0, 57, 43, 180, 0, 61, 182, 0, 87, 61, 28, 2, 160, 0, 7, 3, 167, 0, 23, 42, 28]
abbrev dktX3_contains_0 : List UInt8 := dkwX3_contains_0 ++ dktX3_contains_1
theorem dksX3_contains_0 : cX3_contains.data.toList.drop 0 = dktX3_contains_0 := by decide +kernel
theorem dksX3_contains_1 : cX3_contains.data.toList.drop 24 = dktX3_contains_1 := dk_seg dksX3_contains_0 24 rfl rfl
theorem dX3_contains_0 : decode cX3_contains 0 = .ok (.aload_n 0, 1) := dk_42 (dk_at dksX3_contains_0 0 rfl rfl)
theorem dX3_contains_1 : decode cX3_contains 1 = .ok (.aload_n 1, 1) := dk_43 (dk_at dksX3_contains_0 1 rfl rfl)
theorem dX3_contains_2 : decode cX3_contains 2 = .ok (.getfield 57, 3) := dk_180 0 57 (dk_at dksX3_contains_0 2 rfl rfl)
theorem dX3_contains_5 : decode cX3_contains 5 = .ok (.aload_n 1, 1) := dk_43 (dk_at dksX3_contains_0 5 rfl rfl)
theorem dX3_contains_6 : decode cX3_contains 6 = .ok (.getfield 61, 3) := dk_180 0 61 (dk_at dksX3_contains_0 6 rfl rfl)
theorem dX3_contains_9 : decode cX3_contains 9 = .ok (.invokevirtual 87, 3) := dk_182 0 87 (dk_at dksX3_contains_0 9 rfl rfl)
theorem dX3_contains_12 : decode cX3_contains 12 = .ok (.istore_n 2, 1) := dk_61 (dk_at dksX3_contains_0 12 rfl rfl)
theorem dX3_contains_13 : decode cX3_contains 13 = .ok (.iload_n 2, 1) := dk_28 (dk_at dksX3_contains_0 13 rfl rfl)
theorem dX3_contains_14 : decode cX3_contains 14 = .ok (.iconst (-1), 1) := dk_2 (dk_at dksX3_contains_0 14 rfl rfl)
theorem dX3_contains_15 : decode cX3_contains 15 = .ok (.if_icmp .ne 7, 3) := dk_160 0 7 (dk_at dksX3_contains_0 15 rfl rfl)
theorem dX3_contains_18 : decode cX3_contains 18 = .ok (.iconst 0, 1) := dk_3 (dk_at dksX3_contains_0 18 rfl rfl)
theorem dX3_contains_19 : decode cX3_contains 19 = .ok (.goto 23, 3) := dk_167 0 23 (dk_at dksX3_contains_0 19 rfl rfl)
theorem dX3_contains_22 : decode cX3_contains 22 = .ok (.aload_n 0, 1) := dk_42 (dk_at dksX3_contains_0 22 rfl rfl)
theorem dX3_contains_23 : decode cX3_contains 23 = .ok (.iload_n 2, 1) := dk_28 (dk_at dksX3_contains_0 23 rfl rfl)
theorem dX3_contains_24 : decode cX3_contains 24 = .ok (.invokevirtual 91, 3) := dk_182 0 91 (dk_at dksX3_contains_1 0 rfl rfl)
theorem dX3_contains_27 : decode cX3_contains 27 = .ok (.getfield 71, 3) := dk_180 0 71 (dk_at dksX3_contains_1 3 rfl rfl)
theorem dX3_contains_30 : decode cX3_contains 30 = .ok (.aload_n 1, 1) := dk_43 (dk_at dksX3_contains_1 6 rfl rfl)
theorem dX3_contains_31 : decode cX3_contains 31 = .ok (.getfield 71, 3) := dk_180 0 71 (dk_at dksX3_contains_1 7 rfl rfl)
theorem dX3_contains_34 : decode cX3_contains 34 = .ok (.if_icmp .ne 7, 3) := dk_160 0 7 (dk_at dksX3_contains_1 10 rfl rfl)
theorem dX3_contains_37 : decode cX3_contains 37 = .ok (.iconst 1, 1) := dk_4 (dk_at dksX3_contains_1 13 rfl rfl)
theorem dX3_contains_38 : decode cX3_contains 38 = .ok (.goto 4, 3) := dk_167 0 4 (dk_at dksX3_contains_1 14 rfl rfl)
theorem dX3_contains_41 : decode cX3_contains 41 = .ok (.iconst (-1), 1) := dk_2 (dk_at dksX3_contains_1 17 rfl rfl)
theorem dX3_contains_42 : decode cX3_contains 42 = .ok (.ireturn, 1) := dk_172 (dk_at dksX3_contains_1 18 rfl rfl)
abbrev cX3_decompose : ByteArray := prog_12_method_8_code
def yX3_decompose : MethodName := ⟨RX3, "decompose", "(II)I"⟩
def dkwX3_decompose_4 : List UInt8 := [167, 255, 163, 2, 172]
abbrev dktX3_decompose_4 : List UInt8 := dkwX3_decompose_4 ++ []
def dkwX3_decompose_3 : List UInt8 := [130, 54, 5, 132, 6, 1, 167, 255, 201, 21, 4, 154, 0, 10, 21, 5, 154, 0, 5, 29, 172, 132, 3, 1]
abbrev dktX3_decompose_3 : List UInt8 := dkwX3_decompose_3 ++ dktX3_decompose_4
def dkwX3_decompose_2 : List UInt8 := [180, 0, 11, 21, 6, 50, 180, 0, 57, 130, 54, 4, 21, 5, 42, 180, 0, 11, 21, 6, 50, 180, 0, 61]
abbrev dktX3_decompose_2 : List UInt8 := dkwX3_decompose_2 ++ dktX3_decompose_3
def dkwX3_decompose_1 : List UInt8 := [42, 180, 0, 11, 190, 162, 0, 51, 29, 21, 6, 184, 0, 45, 154, 0, 6, 167, 0, 33, 21, 4, 42]
abbrev dktX3_decompose_1 : List UInt8 := dkwX3_decompose_1 ++ dktX3_decompose_2
def dkwX3_decompose_0 : List UInt8 := [3, 62, 29, 4, 42, 180, 0, 11, 190, 120, 162, 0, 88, 27, 54, 4, 28, 54, 5, 3, 54, 6, 21, 6]
abbrev dktX3_decompose_0 : List UInt8 := dkwX3_decompose_0 ++ dktX3_decompose_1
theorem dksX3_decompose_0 : cX3_decompose.data.toList.drop 0 = dktX3_decompose_0 := by decide +kernel
theorem dksX3_decompose_1 : cX3_decompose.data.toList.drop 24 = dktX3_decompose_1 := dk_seg dksX3_decompose_0 24 rfl rfl
theorem dksX3_decompose_2 : cX3_decompose.data.toList.drop 47 = dktX3_decompose_2 := dk_seg dksX3_decompose_1 23 rfl rfl
theorem dksX3_decompose_3 : cX3_decompose.data.toList.drop 71 = dktX3_decompose_3 := dk_seg dksX3_decompose_2 24 rfl rfl
theorem dksX3_decompose_4 : cX3_decompose.data.toList.drop 95 = dktX3_decompose_4 := dk_seg dksX3_decompose_3 24 rfl rfl
theorem dX3_decompose_0 : decode cX3_decompose 0 = .ok (.iconst 0, 1) := dk_3 (dk_at dksX3_decompose_0 0 rfl rfl)
theorem dX3_decompose_1 : decode cX3_decompose 1 = .ok (.istore_n 3, 1) := dk_62 (dk_at dksX3_decompose_0 1 rfl rfl)
theorem dX3_decompose_2 : decode cX3_decompose 2 = .ok (.iload_n 3, 1) := dk_29 (dk_at dksX3_decompose_0 2 rfl rfl)
theorem dX3_decompose_3 : decode cX3_decompose 3 = .ok (.iconst 1, 1) := dk_4 (dk_at dksX3_decompose_0 3 rfl rfl)
theorem dX3_decompose_4 : decode cX3_decompose 4 = .ok (.aload_n 0, 1) := dk_42 (dk_at dksX3_decompose_0 4 rfl rfl)
theorem dX3_decompose_5 : decode cX3_decompose 5 = .ok (.getfield 11, 3) := dk_180 0 11 (dk_at dksX3_decompose_0 5 rfl rfl)
theorem dX3_decompose_8 : decode cX3_decompose 8 = .ok (.arraylength, 1) := dk_190 (dk_at dksX3_decompose_0 8 rfl rfl)
theorem dX3_decompose_9 : decode cX3_decompose 9 = .ok (.ishl, 1) := dk_120 (dk_at dksX3_decompose_0 9 rfl rfl)
theorem dX3_decompose_10 : decode cX3_decompose 10 = .ok (.if_icmp .ge 88, 3) := dk_162 0 88 (dk_at dksX3_decompose_0 10 rfl rfl)
theorem dX3_decompose_13 : decode cX3_decompose 13 = .ok (.iload_n 1, 1) := dk_27 (dk_at dksX3_decompose_0 13 rfl rfl)
theorem dX3_decompose_14 : decode cX3_decompose 14 = .ok (.istore 4, 2) := dk_54 4 (dk_at dksX3_decompose_0 14 rfl rfl)
theorem dX3_decompose_16 : decode cX3_decompose 16 = .ok (.iload_n 2, 1) := dk_28 (dk_at dksX3_decompose_0 16 rfl rfl)
theorem dX3_decompose_17 : decode cX3_decompose 17 = .ok (.istore 5, 2) := dk_54 5 (dk_at dksX3_decompose_0 17 rfl rfl)
theorem dX3_decompose_19 : decode cX3_decompose 19 = .ok (.iconst 0, 1) := dk_3 (dk_at dksX3_decompose_0 19 rfl rfl)
theorem dX3_decompose_20 : decode cX3_decompose 20 = .ok (.istore 6, 2) := dk_54 6 (dk_at dksX3_decompose_0 20 rfl rfl)
theorem dX3_decompose_22 : decode cX3_decompose 22 = .ok (.iload 6, 2) := dk_21 6 (dk_at dksX3_decompose_0 22 rfl rfl)
theorem dX3_decompose_24 : decode cX3_decompose 24 = .ok (.aload_n 0, 1) := dk_42 (dk_at dksX3_decompose_1 0 rfl rfl)
theorem dX3_decompose_25 : decode cX3_decompose 25 = .ok (.getfield 11, 3) := dk_180 0 11 (dk_at dksX3_decompose_1 1 rfl rfl)
theorem dX3_decompose_28 : decode cX3_decompose 28 = .ok (.arraylength, 1) := dk_190 (dk_at dksX3_decompose_1 4 rfl rfl)
theorem dX3_decompose_29 : decode cX3_decompose 29 = .ok (.if_icmp .ge 51, 3) := dk_162 0 51 (dk_at dksX3_decompose_1 5 rfl rfl)
theorem dX3_decompose_32 : decode cX3_decompose 32 = .ok (.iload_n 3, 1) := dk_29 (dk_at dksX3_decompose_1 8 rfl rfl)
theorem dX3_decompose_33 : decode cX3_decompose 33 = .ok (.iload 6, 2) := dk_21 6 (dk_at dksX3_decompose_1 9 rfl rfl)
theorem dX3_decompose_35 : decode cX3_decompose 35 = .ok (.invokestatic 45, 3) := dk_184 0 45 (dk_at dksX3_decompose_1 11 rfl rfl)
theorem dX3_decompose_38 : decode cX3_decompose 38 = .ok (.ifCond .ne 6, 3) := dk_154 0 6 (dk_at dksX3_decompose_1 14 rfl rfl)
theorem dX3_decompose_41 : decode cX3_decompose 41 = .ok (.goto 33, 3) := dk_167 0 33 (dk_at dksX3_decompose_1 17 rfl rfl)
theorem dX3_decompose_44 : decode cX3_decompose 44 = .ok (.iload 4, 2) := dk_21 4 (dk_at dksX3_decompose_1 20 rfl rfl)
theorem dX3_decompose_46 : decode cX3_decompose 46 = .ok (.aload_n 0, 1) := dk_42 (dk_at dksX3_decompose_1 22 rfl rfl)
theorem dX3_decompose_47 : decode cX3_decompose 47 = .ok (.getfield 11, 3) := dk_180 0 11 (dk_at dksX3_decompose_2 0 rfl rfl)
theorem dX3_decompose_50 : decode cX3_decompose 50 = .ok (.iload 6, 2) := dk_21 6 (dk_at dksX3_decompose_2 3 rfl rfl)
theorem dX3_decompose_52 : decode cX3_decompose 52 = .ok (.aaload, 1) := dk_50 (dk_at dksX3_decompose_2 5 rfl rfl)
theorem dX3_decompose_53 : decode cX3_decompose 53 = .ok (.getfield 57, 3) := dk_180 0 57 (dk_at dksX3_decompose_2 6 rfl rfl)
theorem dX3_decompose_56 : decode cX3_decompose 56 = .ok (.ixor, 1) := dk_130 (dk_at dksX3_decompose_2 9 rfl rfl)
theorem dX3_decompose_57 : decode cX3_decompose 57 = .ok (.istore 4, 2) := dk_54 4 (dk_at dksX3_decompose_2 10 rfl rfl)
theorem dX3_decompose_59 : decode cX3_decompose 59 = .ok (.iload 5, 2) := dk_21 5 (dk_at dksX3_decompose_2 12 rfl rfl)
theorem dX3_decompose_61 : decode cX3_decompose 61 = .ok (.aload_n 0, 1) := dk_42 (dk_at dksX3_decompose_2 14 rfl rfl)
theorem dX3_decompose_62 : decode cX3_decompose 62 = .ok (.getfield 11, 3) := dk_180 0 11 (dk_at dksX3_decompose_2 15 rfl rfl)
theorem dX3_decompose_65 : decode cX3_decompose 65 = .ok (.iload 6, 2) := dk_21 6 (dk_at dksX3_decompose_2 18 rfl rfl)
theorem dX3_decompose_67 : decode cX3_decompose 67 = .ok (.aaload, 1) := dk_50 (dk_at dksX3_decompose_2 20 rfl rfl)
theorem dX3_decompose_68 : decode cX3_decompose 68 = .ok (.getfield 61, 3) := dk_180 0 61 (dk_at dksX3_decompose_2 21 rfl rfl)
theorem dX3_decompose_71 : decode cX3_decompose 71 = .ok (.ixor, 1) := dk_130 (dk_at dksX3_decompose_3 0 rfl rfl)
theorem dX3_decompose_72 : decode cX3_decompose 72 = .ok (.istore 5, 2) := dk_54 5 (dk_at dksX3_decompose_3 1 rfl rfl)
theorem dX3_decompose_74 : decode cX3_decompose 74 = .ok (.iinc 6 1, 3) := dk_132 6 1 (dk_at dksX3_decompose_3 3 rfl rfl)
theorem dX3_decompose_77 : decode cX3_decompose 77 = .ok (.goto (-55), 3) := dk_167 255 201 (dk_at dksX3_decompose_3 6 rfl rfl)
theorem dX3_decompose_80 : decode cX3_decompose 80 = .ok (.iload 4, 2) := dk_21 4 (dk_at dksX3_decompose_3 9 rfl rfl)
theorem dX3_decompose_82 : decode cX3_decompose 82 = .ok (.ifCond .ne 10, 3) := dk_154 0 10 (dk_at dksX3_decompose_3 11 rfl rfl)
theorem dX3_decompose_85 : decode cX3_decompose 85 = .ok (.iload 5, 2) := dk_21 5 (dk_at dksX3_decompose_3 14 rfl rfl)
theorem dX3_decompose_87 : decode cX3_decompose 87 = .ok (.ifCond .ne 5, 3) := dk_154 0 5 (dk_at dksX3_decompose_3 16 rfl rfl)
theorem dX3_decompose_90 : decode cX3_decompose 90 = .ok (.iload_n 3, 1) := dk_29 (dk_at dksX3_decompose_3 19 rfl rfl)
theorem dX3_decompose_91 : decode cX3_decompose 91 = .ok (.ireturn, 1) := dk_172 (dk_at dksX3_decompose_3 20 rfl rfl)
theorem dX3_decompose_92 : decode cX3_decompose 92 = .ok (.iinc 3 1, 3) := dk_132 3 1 (dk_at dksX3_decompose_3 21 rfl rfl)
theorem dX3_decompose_95 : decode cX3_decompose 95 = .ok (.goto (-93), 3) := dk_167 255 163 (dk_at dksX3_decompose_4 0 rfl rfl)
theorem dX3_decompose_98 : decode cX3_decompose 98 = .ok (.iconst (-1), 1) := dk_2 (dk_at dksX3_decompose_4 3 rfl rfl)
theorem dX3_decompose_99 : decode cX3_decompose 99 = .ok (.ireturn, 1) := dk_172 (dk_at dksX3_decompose_4 4 rfl rfl)
abbrev cX3_element : ByteArray := prog_12_method_6_code
def yX3_element : MethodName := ⟨RX3, "element", "(I)LStringTableau$Row;"⟩
def dkwX3_element_1 : List UInt8 := [184, 0, 45, 153, 0, 13, 44, 42, 180, 0, 11, 29, 50, 182, 0, 48, 132, 3, 1, 167, 255, 226, 44, 176]
abbrev dktX3_element_1 : List UInt8 := dkwX3_element_1 ++ []
def dkwX3_element_0 : List UInt8 := [187, 0, 9, 89, 3, 3, 3, 183, 0, 17, 77, 3, 62, 29, 42, 180, 0, 11, 190, 162, 0, 27, 27, 29]
abbrev dktX3_element_0 : List UInt8 := dkwX3_element_0 ++ dktX3_element_1
theorem dksX3_element_0 : cX3_element.data.toList.drop 0 = dktX3_element_0 := by decide +kernel
theorem dksX3_element_1 : cX3_element.data.toList.drop 24 = dktX3_element_1 := dk_seg dksX3_element_0 24 rfl rfl
theorem dX3_element_0 : decode cX3_element 0 = .ok (.new 9, 3) := dk_187 0 9 (dk_at dksX3_element_0 0 rfl rfl)
theorem dX3_element_3 : decode cX3_element 3 = .ok (.dup, 1) := dk_89 (dk_at dksX3_element_0 3 rfl rfl)
theorem dX3_element_4 : decode cX3_element 4 = .ok (.iconst 0, 1) := dk_3 (dk_at dksX3_element_0 4 rfl rfl)
theorem dX3_element_5 : decode cX3_element 5 = .ok (.iconst 0, 1) := dk_3 (dk_at dksX3_element_0 5 rfl rfl)
theorem dX3_element_6 : decode cX3_element 6 = .ok (.iconst 0, 1) := dk_3 (dk_at dksX3_element_0 6 rfl rfl)
theorem dX3_element_7 : decode cX3_element 7 = .ok (.invokespecial 17, 3) := dk_183 0 17 (dk_at dksX3_element_0 7 rfl rfl)
theorem dX3_element_10 : decode cX3_element 10 = .ok (.astore_n 2, 1) := dk_77 (dk_at dksX3_element_0 10 rfl rfl)
theorem dX3_element_11 : decode cX3_element 11 = .ok (.iconst 0, 1) := dk_3 (dk_at dksX3_element_0 11 rfl rfl)
theorem dX3_element_12 : decode cX3_element 12 = .ok (.istore_n 3, 1) := dk_62 (dk_at dksX3_element_0 12 rfl rfl)
theorem dX3_element_13 : decode cX3_element 13 = .ok (.iload_n 3, 1) := dk_29 (dk_at dksX3_element_0 13 rfl rfl)
theorem dX3_element_14 : decode cX3_element 14 = .ok (.aload_n 0, 1) := dk_42 (dk_at dksX3_element_0 14 rfl rfl)
theorem dX3_element_15 : decode cX3_element 15 = .ok (.getfield 11, 3) := dk_180 0 11 (dk_at dksX3_element_0 15 rfl rfl)
theorem dX3_element_18 : decode cX3_element 18 = .ok (.arraylength, 1) := dk_190 (dk_at dksX3_element_0 18 rfl rfl)
theorem dX3_element_19 : decode cX3_element 19 = .ok (.if_icmp .ge 27, 3) := dk_162 0 27 (dk_at dksX3_element_0 19 rfl rfl)
theorem dX3_element_22 : decode cX3_element 22 = .ok (.iload_n 1, 1) := dk_27 (dk_at dksX3_element_0 22 rfl rfl)
theorem dX3_element_23 : decode cX3_element 23 = .ok (.iload_n 3, 1) := dk_29 (dk_at dksX3_element_0 23 rfl rfl)
theorem dX3_element_24 : decode cX3_element 24 = .ok (.invokestatic 45, 3) := dk_184 0 45 (dk_at dksX3_element_1 0 rfl rfl)
theorem dX3_element_27 : decode cX3_element 27 = .ok (.ifCond .eq 13, 3) := dk_153 0 13 (dk_at dksX3_element_1 3 rfl rfl)
theorem dX3_element_30 : decode cX3_element 30 = .ok (.aload_n 2, 1) := dk_44 (dk_at dksX3_element_1 6 rfl rfl)
theorem dX3_element_31 : decode cX3_element 31 = .ok (.aload_n 0, 1) := dk_42 (dk_at dksX3_element_1 7 rfl rfl)
theorem dX3_element_32 : decode cX3_element 32 = .ok (.getfield 11, 3) := dk_180 0 11 (dk_at dksX3_element_1 8 rfl rfl)
theorem dX3_element_35 : decode cX3_element 35 = .ok (.iload_n 3, 1) := dk_29 (dk_at dksX3_element_1 11 rfl rfl)
theorem dX3_element_36 : decode cX3_element 36 = .ok (.aaload, 1) := dk_50 (dk_at dksX3_element_1 12 rfl rfl)
theorem dX3_element_37 : decode cX3_element 37 = .ok (.invokevirtual 48, 3) := dk_182 0 48 (dk_at dksX3_element_1 13 rfl rfl)
theorem dX3_element_40 : decode cX3_element 40 = .ok (.iinc 3 1, 3) := dk_132 3 1 (dk_at dksX3_element_1 16 rfl rfl)
theorem dX3_element_43 : decode cX3_element 43 = .ok (.goto (-30), 3) := dk_167 255 226 (dk_at dksX3_element_1 19 rfl rfl)
theorem dX3_element_46 : decode cX3_element 46 = .ok (.aload_n 2, 1) := dk_44 (dk_at dksX3_element_1 22 rfl rfl)
theorem dX3_element_47 : decode cX3_element 47 = .ok (.areturn, 1) := dk_176 (dk_at dksX3_element_1 23 rfl rfl)
abbrev cX3_copy : ByteArray := prog_12_method_2_code
def yX3_copy : MethodName := ⟨RX3, "copy", "()LStringTableau$Tableau;"⟩
def dkwX3_copy_1 : List UInt8 := [43, 180, 0, 11, 28, 42, 180, 0, 11, 28, 50, 182, 0, 23, 83, 132, 2, 1, 167, 255, 229, 43, 176]
abbrev dktX3_copy_1 : List UInt8 := dkwX3_copy_1 ++ []
def dkwX3_copy_0 : List UInt8 := [187, 0, 12, 89, 42, 180, 0, 11, 190, 183, 0, 20, 76, 3, 61, 28, 42, 180, 0, 11, 190, 162, 0, 24]
abbrev dktX3_copy_0 : List UInt8 := dkwX3_copy_0 ++ dktX3_copy_1
theorem dksX3_copy_0 : cX3_copy.data.toList.drop 0 = dktX3_copy_0 := by decide +kernel
theorem dksX3_copy_1 : cX3_copy.data.toList.drop 24 = dktX3_copy_1 := dk_seg dksX3_copy_0 24 rfl rfl
theorem dX3_copy_0 : decode cX3_copy 0 = .ok (.new 12, 3) := dk_187 0 12 (dk_at dksX3_copy_0 0 rfl rfl)
theorem dX3_copy_3 : decode cX3_copy 3 = .ok (.dup, 1) := dk_89 (dk_at dksX3_copy_0 3 rfl rfl)
theorem dX3_copy_4 : decode cX3_copy 4 = .ok (.aload_n 0, 1) := dk_42 (dk_at dksX3_copy_0 4 rfl rfl)
theorem dX3_copy_5 : decode cX3_copy 5 = .ok (.getfield 11, 3) := dk_180 0 11 (dk_at dksX3_copy_0 5 rfl rfl)
theorem dX3_copy_8 : decode cX3_copy 8 = .ok (.arraylength, 1) := dk_190 (dk_at dksX3_copy_0 8 rfl rfl)
theorem dX3_copy_9 : decode cX3_copy 9 = .ok (.invokespecial 20, 3) := dk_183 0 20 (dk_at dksX3_copy_0 9 rfl rfl)
theorem dX3_copy_12 : decode cX3_copy 12 = .ok (.astore_n 1, 1) := dk_76 (dk_at dksX3_copy_0 12 rfl rfl)
theorem dX3_copy_13 : decode cX3_copy 13 = .ok (.iconst 0, 1) := dk_3 (dk_at dksX3_copy_0 13 rfl rfl)
theorem dX3_copy_14 : decode cX3_copy 14 = .ok (.istore_n 2, 1) := dk_61 (dk_at dksX3_copy_0 14 rfl rfl)
theorem dX3_copy_15 : decode cX3_copy 15 = .ok (.iload_n 2, 1) := dk_28 (dk_at dksX3_copy_0 15 rfl rfl)
theorem dX3_copy_16 : decode cX3_copy 16 = .ok (.aload_n 0, 1) := dk_42 (dk_at dksX3_copy_0 16 rfl rfl)
theorem dX3_copy_17 : decode cX3_copy 17 = .ok (.getfield 11, 3) := dk_180 0 11 (dk_at dksX3_copy_0 17 rfl rfl)
theorem dX3_copy_20 : decode cX3_copy 20 = .ok (.arraylength, 1) := dk_190 (dk_at dksX3_copy_0 20 rfl rfl)
theorem dX3_copy_21 : decode cX3_copy 21 = .ok (.if_icmp .ge 24, 3) := dk_162 0 24 (dk_at dksX3_copy_0 21 rfl rfl)
theorem dX3_copy_24 : decode cX3_copy 24 = .ok (.aload_n 1, 1) := dk_43 (dk_at dksX3_copy_1 0 rfl rfl)
theorem dX3_copy_25 : decode cX3_copy 25 = .ok (.getfield 11, 3) := dk_180 0 11 (dk_at dksX3_copy_1 1 rfl rfl)
theorem dX3_copy_28 : decode cX3_copy 28 = .ok (.iload_n 2, 1) := dk_28 (dk_at dksX3_copy_1 4 rfl rfl)
theorem dX3_copy_29 : decode cX3_copy 29 = .ok (.aload_n 0, 1) := dk_42 (dk_at dksX3_copy_1 5 rfl rfl)
theorem dX3_copy_30 : decode cX3_copy 30 = .ok (.getfield 11, 3) := dk_180 0 11 (dk_at dksX3_copy_1 6 rfl rfl)
theorem dX3_copy_33 : decode cX3_copy 33 = .ok (.iload_n 2, 1) := dk_28 (dk_at dksX3_copy_1 9 rfl rfl)
theorem dX3_copy_34 : decode cX3_copy 34 = .ok (.aaload, 1) := dk_50 (dk_at dksX3_copy_1 10 rfl rfl)
theorem dX3_copy_35 : decode cX3_copy 35 = .ok (.invokevirtual 23, 3) := dk_182 0 23 (dk_at dksX3_copy_1 11 rfl rfl)
theorem dX3_copy_38 : decode cX3_copy 38 = .ok (.aastore, 1) := dk_83 (dk_at dksX3_copy_1 14 rfl rfl)
theorem dX3_copy_39 : decode cX3_copy 39 = .ok (.iinc 2 1, 3) := dk_132 2 1 (dk_at dksX3_copy_1 15 rfl rfl)
theorem dX3_copy_42 : decode cX3_copy 42 = .ok (.goto (-27), 3) := dk_167 255 229 (dk_at dksX3_copy_1 18 rfl rfl)
theorem dX3_copy_45 : decode cX3_copy 45 = .ok (.aload_n 1, 1) := dk_43 (dk_at dksX3_copy_1 21 rfl rfl)
theorem dX3_copy_46 : decode cX3_copy 46 = .ok (.areturn, 1) := dk_176 (dk_at dksX3_copy_1 22 rfl rfl)
abbrev cX3_gate : ByteArray := prog_12_method_4_code
def yX3_gate : MethodName := ⟨RX3, "gate", "(III)V"⟩
def dkwX3_gate_2 : List UInt8 := [167, 255, 228, 177]
abbrev dktX3_gate_2 : List UInt8 := dkwX3_gate_2 ++ []
def dkwX3_gate_1 : List UInt8 := [162, 0, 27, 25, 5, 21, 7, 50, 58, 8, 25, 4, 25, 8, 28, 29, 185, 0, 35, 4, 0, 132, 7, 1]
abbrev dktX3_gate_1 : List UInt8 := dkwX3_gate_1 ++ dktX3_gate_2
def dkwX3_gate_0 : List UInt8 := [27, 184, 0, 31, 58, 4, 42, 180, 0, 11, 58, 5, 25, 5, 190, 54, 6, 3, 54, 7, 21, 7, 21, 6]
abbrev dktX3_gate_0 : List UInt8 := dkwX3_gate_0 ++ dktX3_gate_1
theorem dksX3_gate_0 : cX3_gate.data.toList.drop 0 = dktX3_gate_0 := by decide +kernel
theorem dksX3_gate_1 : cX3_gate.data.toList.drop 24 = dktX3_gate_1 := dk_seg dksX3_gate_0 24 rfl rfl
theorem dksX3_gate_2 : cX3_gate.data.toList.drop 48 = dktX3_gate_2 := dk_seg dksX3_gate_1 24 rfl rfl
theorem dX3_gate_0 : decode cX3_gate 0 = .ok (.iload_n 1, 1) := dk_27 (dk_at dksX3_gate_0 0 rfl rfl)
theorem dX3_gate_1 : decode cX3_gate 1 = .ok (.invokestatic 31, 3) := dk_184 0 31 (dk_at dksX3_gate_0 1 rfl rfl)
theorem dX3_gate_4 : decode cX3_gate 4 = .ok (.astore 4, 2) := dk_58 4 (dk_at dksX3_gate_0 4 rfl rfl)
theorem dX3_gate_6 : decode cX3_gate 6 = .ok (.aload_n 0, 1) := dk_42 (dk_at dksX3_gate_0 6 rfl rfl)
theorem dX3_gate_7 : decode cX3_gate 7 = .ok (.getfield 11, 3) := dk_180 0 11 (dk_at dksX3_gate_0 7 rfl rfl)
theorem dX3_gate_10 : decode cX3_gate 10 = .ok (.astore 5, 2) := dk_58 5 (dk_at dksX3_gate_0 10 rfl rfl)
theorem dX3_gate_12 : decode cX3_gate 12 = .ok (.aload 5, 2) := dk_25 5 (dk_at dksX3_gate_0 12 rfl rfl)
theorem dX3_gate_14 : decode cX3_gate 14 = .ok (.arraylength, 1) := dk_190 (dk_at dksX3_gate_0 14 rfl rfl)
theorem dX3_gate_15 : decode cX3_gate 15 = .ok (.istore 6, 2) := dk_54 6 (dk_at dksX3_gate_0 15 rfl rfl)
theorem dX3_gate_17 : decode cX3_gate 17 = .ok (.iconst 0, 1) := dk_3 (dk_at dksX3_gate_0 17 rfl rfl)
theorem dX3_gate_18 : decode cX3_gate 18 = .ok (.istore 7, 2) := dk_54 7 (dk_at dksX3_gate_0 18 rfl rfl)
theorem dX3_gate_20 : decode cX3_gate 20 = .ok (.iload 7, 2) := dk_21 7 (dk_at dksX3_gate_0 20 rfl rfl)
theorem dX3_gate_22 : decode cX3_gate 22 = .ok (.iload 6, 2) := dk_21 6 (dk_at dksX3_gate_0 22 rfl rfl)
theorem dX3_gate_24 : decode cX3_gate 24 = .ok (.if_icmp .ge 27, 3) := dk_162 0 27 (dk_at dksX3_gate_1 0 rfl rfl)
theorem dX3_gate_27 : decode cX3_gate 27 = .ok (.aload 5, 2) := dk_25 5 (dk_at dksX3_gate_1 3 rfl rfl)
theorem dX3_gate_29 : decode cX3_gate 29 = .ok (.iload 7, 2) := dk_21 7 (dk_at dksX3_gate_1 5 rfl rfl)
theorem dX3_gate_31 : decode cX3_gate 31 = .ok (.aaload, 1) := dk_50 (dk_at dksX3_gate_1 7 rfl rfl)
theorem dX3_gate_32 : decode cX3_gate 32 = .ok (.astore 8, 2) := dk_58 8 (dk_at dksX3_gate_1 8 rfl rfl)
theorem dX3_gate_34 : decode cX3_gate 34 = .ok (.aload 4, 2) := dk_25 4 (dk_at dksX3_gate_1 10 rfl rfl)
theorem dX3_gate_36 : decode cX3_gate 36 = .ok (.aload 8, 2) := dk_25 8 (dk_at dksX3_gate_1 12 rfl rfl)
theorem dX3_gate_38 : decode cX3_gate 38 = .ok (.iload_n 2, 1) := dk_28 (dk_at dksX3_gate_1 14 rfl rfl)
theorem dX3_gate_39 : decode cX3_gate 39 = .ok (.iload_n 3, 1) := dk_29 (dk_at dksX3_gate_1 15 rfl rfl)
theorem dX3_gate_40 : decode cX3_gate 40 = .ok (.invokeinterface 35 4, 5) := by decide +kernel
theorem dX3_gate_45 : decode cX3_gate 45 = .ok (.iinc 7 1, 3) := dk_132 7 1 (dk_at dksX3_gate_1 21 rfl rfl)
theorem dX3_gate_48 : decode cX3_gate 48 = .ok (.goto (-28), 3) := dk_167 255 228 (dk_at dksX3_gate_2 0 rfl rfl)
theorem dX3_gate_51 : decode cX3_gate 51 = .ok (.return_, 1) := dk_177 (dk_at dksX3_gate_2 3 rfl rfl)
abbrev cX3_canonical : ByteArray := prog_12_method_12_code
def yX3_canonical : MethodName := ⟨RX3, "canonical", "()LStringTableau$Tableau;"⟩
def dkwX3_canonical_1 : List UInt8 := [182, 0, 107, 62, 29, 42, 180, 0, 11, 190, 160, 0, 7, 43, 167, 0, 4, 1, 176]
abbrev dktX3_canonical_1 : List UInt8 := dkwX3_canonical_1 ++ []
def dkwX3_canonical_0 : List UInt8 := [42, 182, 0, 101, 76, 43, 186, 0, 104, 0, 0, 3, 182, 0, 107, 61, 43, 186, 0, 111, 0, 0, 28]
abbrev dktX3_canonical_0 : List UInt8 := dkwX3_canonical_0 ++ dktX3_canonical_1
theorem dksX3_canonical_0 : cX3_canonical.data.toList.drop 0 = dktX3_canonical_0 := by decide +kernel
theorem dksX3_canonical_1 : cX3_canonical.data.toList.drop 23 = dktX3_canonical_1 := dk_seg dksX3_canonical_0 23 rfl rfl
theorem dX3_canonical_0 : decode cX3_canonical 0 = .ok (.aload_n 0, 1) := dk_42 (dk_at dksX3_canonical_0 0 rfl rfl)
theorem dX3_canonical_1 : decode cX3_canonical 1 = .ok (.invokevirtual 101, 3) := dk_182 0 101 (dk_at dksX3_canonical_0 1 rfl rfl)
theorem dX3_canonical_4 : decode cX3_canonical 4 = .ok (.astore_n 1, 1) := dk_76 (dk_at dksX3_canonical_0 4 rfl rfl)
theorem dX3_canonical_5 : decode cX3_canonical 5 = .ok (.aload_n 1, 1) := dk_43 (dk_at dksX3_canonical_0 5 rfl rfl)
theorem dX3_canonical_6 : decode cX3_canonical 6 = .ok (.invokedynamic 104, 5) := by decide +kernel
theorem dX3_canonical_11 : decode cX3_canonical 11 = .ok (.iconst 0, 1) := dk_3 (dk_at dksX3_canonical_0 11 rfl rfl)
theorem dX3_canonical_12 : decode cX3_canonical 12 = .ok (.invokevirtual 107, 3) := dk_182 0 107 (dk_at dksX3_canonical_0 12 rfl rfl)
theorem dX3_canonical_15 : decode cX3_canonical 15 = .ok (.istore_n 2, 1) := dk_61 (dk_at dksX3_canonical_0 15 rfl rfl)
theorem dX3_canonical_16 : decode cX3_canonical 16 = .ok (.aload_n 1, 1) := dk_43 (dk_at dksX3_canonical_0 16 rfl rfl)
theorem dX3_canonical_17 : decode cX3_canonical 17 = .ok (.invokedynamic 111, 5) := by decide +kernel
theorem dX3_canonical_22 : decode cX3_canonical 22 = .ok (.iload_n 2, 1) := dk_28 (dk_at dksX3_canonical_0 22 rfl rfl)
theorem dX3_canonical_23 : decode cX3_canonical 23 = .ok (.invokevirtual 107, 3) := dk_182 0 107 (dk_at dksX3_canonical_1 0 rfl rfl)
theorem dX3_canonical_26 : decode cX3_canonical 26 = .ok (.istore_n 3, 1) := dk_62 (dk_at dksX3_canonical_1 3 rfl rfl)
theorem dX3_canonical_27 : decode cX3_canonical 27 = .ok (.iload_n 3, 1) := dk_29 (dk_at dksX3_canonical_1 4 rfl rfl)
theorem dX3_canonical_28 : decode cX3_canonical 28 = .ok (.aload_n 0, 1) := dk_42 (dk_at dksX3_canonical_1 5 rfl rfl)
theorem dX3_canonical_29 : decode cX3_canonical 29 = .ok (.getfield 11, 3) := dk_180 0 11 (dk_at dksX3_canonical_1 6 rfl rfl)
theorem dX3_canonical_32 : decode cX3_canonical 32 = .ok (.arraylength, 1) := dk_190 (dk_at dksX3_canonical_1 9 rfl rfl)
theorem dX3_canonical_33 : decode cX3_canonical 33 = .ok (.if_icmp .ne 7, 3) := dk_160 0 7 (dk_at dksX3_canonical_1 10 rfl rfl)
theorem dX3_canonical_36 : decode cX3_canonical 36 = .ok (.aload_n 1, 1) := dk_43 (dk_at dksX3_canonical_1 13 rfl rfl)
theorem dX3_canonical_37 : decode cX3_canonical 37 = .ok (.goto 4, 3) := dk_167 0 4 (dk_at dksX3_canonical_1 14 rfl rfl)
theorem dX3_canonical_40 : decode cX3_canonical 40 = .ok (.aconst_null, 1) := dk_1 (dk_at dksX3_canonical_1 17 rfl rfl)
theorem dX3_canonical_41 : decode cX3_canonical 41 = .ok (.areturn, 1) := dk_176 (dk_at dksX3_canonical_1 18 rfl rfl)
abbrev cX3_lambda_canonical_0 : ByteArray := prog_12_method_15_code
def yX3_lambda_canonical_0 : MethodName := ⟨RX3, "lambda$canonical$0", "(LStringTableau$Row;I)Z"⟩
def dkwX3_lambda_canonical_0_0 : List UInt8 := [42, 27, 182, 0, 130, 172]
abbrev dktX3_lambda_canonical_0_0 : List UInt8 := dkwX3_lambda_canonical_0_0 ++ []
theorem dksX3_lambda_canonical_0_0 : cX3_lambda_canonical_0.data.toList.drop 0 = dktX3_lambda_canonical_0_0 := by decide +kernel
theorem dX3_lambda_canonical_0_0 : decode cX3_lambda_canonical_0 0 = .ok (.aload_n 0, 1) := dk_42 (dk_at dksX3_lambda_canonical_0_0 0 rfl rfl)
theorem dX3_lambda_canonical_0_1 : decode cX3_lambda_canonical_0 1 = .ok (.iload_n 1, 1) := dk_27 (dk_at dksX3_lambda_canonical_0_0 1 rfl rfl)
theorem dX3_lambda_canonical_0_2 : decode cX3_lambda_canonical_0 2 = .ok (.invokevirtual 130, 3) := dk_182 0 130 (dk_at dksX3_lambda_canonical_0_0 2 rfl rfl)
theorem dX3_lambda_canonical_0_5 : decode cX3_lambda_canonical_0 5 = .ok (.ireturn, 1) := dk_172 (dk_at dksX3_lambda_canonical_0_0 5 rfl rfl)
abbrev cX3_reduceBy : ByteArray := prog_12_method_11_code
def yX3_reduceBy : MethodName := ⟨RX3, "reduceBy", "(LStringTableau$Bit;I)I"⟩
def dkwX3_reduceBy_6 : List UInt8 := [25, 6, 182, 0, 48, 132, 7, 1, 167, 255, 207, 132, 3, 1, 132, 4, 1, 167, 255, 105, 29, 172]
abbrev dktX3_reduceBy_6 : List UInt8 := dkwX3_reduceBy_6 ++ []
def dkwX3_reduceBy_5 : List UInt8 := [180, 0, 11, 21, 7, 50, 21, 4, 185, 0, 95, 3, 0, 153, 0, 15, 42, 180, 0, 11, 21, 7, 50]
abbrev dktX3_reduceBy_5 : List UInt8 := dkwX3_reduceBy_5 ++ dktX3_reduceBy_6
def dkwX3_reduceBy_4 : List UInt8 := [25, 6, 83, 3, 54, 7, 21, 7, 42, 180, 0, 11, 190, 162, 0, 45, 21, 7, 29, 159, 0, 33, 43, 42]
abbrev dktX3_reduceBy_4 : List UInt8 := dkwX3_reduceBy_4 ++ dktX3_reduceBy_5
def dkwX3_reduceBy_3 : List UInt8 := [21, 5, 50, 58, 6, 42, 180, 0, 11, 21, 5, 42, 180, 0, 11, 29, 50, 83, 42, 180, 0, 11, 29]
abbrev dktX3_reduceBy_3 : List UInt8 := dkwX3_reduceBy_3 ++ dktX3_reduceBy_4
def dkwX3_reduceBy_2 : List UInt8 := [132, 5, 1, 167, 255, 225, 21, 5, 42, 180, 0, 11, 190, 160, 0, 6, 167, 0, 91, 42, 180, 0, 11]
abbrev dktX3_reduceBy_2 : List UInt8 := dkwX3_reduceBy_2 ++ dktX3_reduceBy_3
def dkwX3_reduceBy_1 : List UInt8 := [190, 162, 0, 27, 43, 42, 180, 0, 11, 21, 5, 50, 21, 4, 185, 0, 95, 3, 0, 154, 0, 9]
abbrev dktX3_reduceBy_1 : List UInt8 := dkwX3_reduceBy_1 ++ dktX3_reduceBy_2
def dkwX3_reduceBy_0 : List UInt8 := [28, 62, 3, 54, 4, 21, 4, 42, 180, 0, 11, 190, 162, 0, 147, 29, 54, 5, 21, 5, 42, 180, 0, 11]
abbrev dktX3_reduceBy_0 : List UInt8 := dkwX3_reduceBy_0 ++ dktX3_reduceBy_1
theorem dksX3_reduceBy_0 : cX3_reduceBy.data.toList.drop 0 = dktX3_reduceBy_0 := by decide +kernel
theorem dksX3_reduceBy_1 : cX3_reduceBy.data.toList.drop 24 = dktX3_reduceBy_1 := dk_seg dksX3_reduceBy_0 24 rfl rfl
theorem dksX3_reduceBy_2 : cX3_reduceBy.data.toList.drop 46 = dktX3_reduceBy_2 := dk_seg dksX3_reduceBy_1 22 rfl rfl
theorem dksX3_reduceBy_3 : cX3_reduceBy.data.toList.drop 69 = dktX3_reduceBy_3 := dk_seg dksX3_reduceBy_2 23 rfl rfl
theorem dksX3_reduceBy_4 : cX3_reduceBy.data.toList.drop 92 = dktX3_reduceBy_4 := dk_seg dksX3_reduceBy_3 23 rfl rfl
theorem dksX3_reduceBy_5 : cX3_reduceBy.data.toList.drop 116 = dktX3_reduceBy_5 := dk_seg dksX3_reduceBy_4 24 rfl rfl
theorem dksX3_reduceBy_6 : cX3_reduceBy.data.toList.drop 139 = dktX3_reduceBy_6 := dk_seg dksX3_reduceBy_5 23 rfl rfl
theorem dX3_reduceBy_0 : decode cX3_reduceBy 0 = .ok (.iload_n 2, 1) := dk_28 (dk_at dksX3_reduceBy_0 0 rfl rfl)
theorem dX3_reduceBy_1 : decode cX3_reduceBy 1 = .ok (.istore_n 3, 1) := dk_62 (dk_at dksX3_reduceBy_0 1 rfl rfl)
theorem dX3_reduceBy_2 : decode cX3_reduceBy 2 = .ok (.iconst 0, 1) := dk_3 (dk_at dksX3_reduceBy_0 2 rfl rfl)
theorem dX3_reduceBy_3 : decode cX3_reduceBy 3 = .ok (.istore 4, 2) := dk_54 4 (dk_at dksX3_reduceBy_0 3 rfl rfl)
theorem dX3_reduceBy_5 : decode cX3_reduceBy 5 = .ok (.iload 4, 2) := dk_21 4 (dk_at dksX3_reduceBy_0 5 rfl rfl)
theorem dX3_reduceBy_7 : decode cX3_reduceBy 7 = .ok (.aload_n 0, 1) := dk_42 (dk_at dksX3_reduceBy_0 7 rfl rfl)
theorem dX3_reduceBy_8 : decode cX3_reduceBy 8 = .ok (.getfield 11, 3) := dk_180 0 11 (dk_at dksX3_reduceBy_0 8 rfl rfl)
theorem dX3_reduceBy_11 : decode cX3_reduceBy 11 = .ok (.arraylength, 1) := dk_190 (dk_at dksX3_reduceBy_0 11 rfl rfl)
theorem dX3_reduceBy_12 : decode cX3_reduceBy 12 = .ok (.if_icmp .ge 147, 3) := dk_162 0 147 (dk_at dksX3_reduceBy_0 12 rfl rfl)
theorem dX3_reduceBy_15 : decode cX3_reduceBy 15 = .ok (.iload_n 3, 1) := dk_29 (dk_at dksX3_reduceBy_0 15 rfl rfl)
theorem dX3_reduceBy_16 : decode cX3_reduceBy 16 = .ok (.istore 5, 2) := dk_54 5 (dk_at dksX3_reduceBy_0 16 rfl rfl)
theorem dX3_reduceBy_18 : decode cX3_reduceBy 18 = .ok (.iload 5, 2) := dk_21 5 (dk_at dksX3_reduceBy_0 18 rfl rfl)
theorem dX3_reduceBy_20 : decode cX3_reduceBy 20 = .ok (.aload_n 0, 1) := dk_42 (dk_at dksX3_reduceBy_0 20 rfl rfl)
theorem dX3_reduceBy_21 : decode cX3_reduceBy 21 = .ok (.getfield 11, 3) := dk_180 0 11 (dk_at dksX3_reduceBy_0 21 rfl rfl)
theorem dX3_reduceBy_24 : decode cX3_reduceBy 24 = .ok (.arraylength, 1) := dk_190 (dk_at dksX3_reduceBy_1 0 rfl rfl)
theorem dX3_reduceBy_25 : decode cX3_reduceBy 25 = .ok (.if_icmp .ge 27, 3) := dk_162 0 27 (dk_at dksX3_reduceBy_1 1 rfl rfl)
theorem dX3_reduceBy_28 : decode cX3_reduceBy 28 = .ok (.aload_n 1, 1) := dk_43 (dk_at dksX3_reduceBy_1 4 rfl rfl)
theorem dX3_reduceBy_29 : decode cX3_reduceBy 29 = .ok (.aload_n 0, 1) := dk_42 (dk_at dksX3_reduceBy_1 5 rfl rfl)
theorem dX3_reduceBy_30 : decode cX3_reduceBy 30 = .ok (.getfield 11, 3) := dk_180 0 11 (dk_at dksX3_reduceBy_1 6 rfl rfl)
theorem dX3_reduceBy_33 : decode cX3_reduceBy 33 = .ok (.iload 5, 2) := dk_21 5 (dk_at dksX3_reduceBy_1 9 rfl rfl)
theorem dX3_reduceBy_35 : decode cX3_reduceBy 35 = .ok (.aaload, 1) := dk_50 (dk_at dksX3_reduceBy_1 11 rfl rfl)
theorem dX3_reduceBy_36 : decode cX3_reduceBy 36 = .ok (.iload 4, 2) := dk_21 4 (dk_at dksX3_reduceBy_1 12 rfl rfl)
theorem dX3_reduceBy_38 : decode cX3_reduceBy 38 = .ok (.invokeinterface 95 3, 5) := by decide +kernel
theorem dX3_reduceBy_43 : decode cX3_reduceBy 43 = .ok (.ifCond .ne 9, 3) := dk_154 0 9 (dk_at dksX3_reduceBy_1 19 rfl rfl)
theorem dX3_reduceBy_46 : decode cX3_reduceBy 46 = .ok (.iinc 5 1, 3) := dk_132 5 1 (dk_at dksX3_reduceBy_2 0 rfl rfl)
theorem dX3_reduceBy_49 : decode cX3_reduceBy 49 = .ok (.goto (-31), 3) := dk_167 255 225 (dk_at dksX3_reduceBy_2 3 rfl rfl)
theorem dX3_reduceBy_52 : decode cX3_reduceBy 52 = .ok (.iload 5, 2) := dk_21 5 (dk_at dksX3_reduceBy_2 6 rfl rfl)
theorem dX3_reduceBy_54 : decode cX3_reduceBy 54 = .ok (.aload_n 0, 1) := dk_42 (dk_at dksX3_reduceBy_2 8 rfl rfl)
theorem dX3_reduceBy_55 : decode cX3_reduceBy 55 = .ok (.getfield 11, 3) := dk_180 0 11 (dk_at dksX3_reduceBy_2 9 rfl rfl)
theorem dX3_reduceBy_58 : decode cX3_reduceBy 58 = .ok (.arraylength, 1) := dk_190 (dk_at dksX3_reduceBy_2 12 rfl rfl)
theorem dX3_reduceBy_59 : decode cX3_reduceBy 59 = .ok (.if_icmp .ne 6, 3) := dk_160 0 6 (dk_at dksX3_reduceBy_2 13 rfl rfl)
theorem dX3_reduceBy_62 : decode cX3_reduceBy 62 = .ok (.goto 91, 3) := dk_167 0 91 (dk_at dksX3_reduceBy_2 16 rfl rfl)
theorem dX3_reduceBy_65 : decode cX3_reduceBy 65 = .ok (.aload_n 0, 1) := dk_42 (dk_at dksX3_reduceBy_2 19 rfl rfl)
theorem dX3_reduceBy_66 : decode cX3_reduceBy 66 = .ok (.getfield 11, 3) := dk_180 0 11 (dk_at dksX3_reduceBy_2 20 rfl rfl)
theorem dX3_reduceBy_69 : decode cX3_reduceBy 69 = .ok (.iload 5, 2) := dk_21 5 (dk_at dksX3_reduceBy_3 0 rfl rfl)
theorem dX3_reduceBy_71 : decode cX3_reduceBy 71 = .ok (.aaload, 1) := dk_50 (dk_at dksX3_reduceBy_3 2 rfl rfl)
theorem dX3_reduceBy_72 : decode cX3_reduceBy 72 = .ok (.astore 6, 2) := dk_58 6 (dk_at dksX3_reduceBy_3 3 rfl rfl)
theorem dX3_reduceBy_74 : decode cX3_reduceBy 74 = .ok (.aload_n 0, 1) := dk_42 (dk_at dksX3_reduceBy_3 5 rfl rfl)
theorem dX3_reduceBy_75 : decode cX3_reduceBy 75 = .ok (.getfield 11, 3) := dk_180 0 11 (dk_at dksX3_reduceBy_3 6 rfl rfl)
theorem dX3_reduceBy_78 : decode cX3_reduceBy 78 = .ok (.iload 5, 2) := dk_21 5 (dk_at dksX3_reduceBy_3 9 rfl rfl)
theorem dX3_reduceBy_80 : decode cX3_reduceBy 80 = .ok (.aload_n 0, 1) := dk_42 (dk_at dksX3_reduceBy_3 11 rfl rfl)
theorem dX3_reduceBy_81 : decode cX3_reduceBy 81 = .ok (.getfield 11, 3) := dk_180 0 11 (dk_at dksX3_reduceBy_3 12 rfl rfl)
theorem dX3_reduceBy_84 : decode cX3_reduceBy 84 = .ok (.iload_n 3, 1) := dk_29 (dk_at dksX3_reduceBy_3 15 rfl rfl)
theorem dX3_reduceBy_85 : decode cX3_reduceBy 85 = .ok (.aaload, 1) := dk_50 (dk_at dksX3_reduceBy_3 16 rfl rfl)
theorem dX3_reduceBy_86 : decode cX3_reduceBy 86 = .ok (.aastore, 1) := dk_83 (dk_at dksX3_reduceBy_3 17 rfl rfl)
theorem dX3_reduceBy_87 : decode cX3_reduceBy 87 = .ok (.aload_n 0, 1) := dk_42 (dk_at dksX3_reduceBy_3 18 rfl rfl)
theorem dX3_reduceBy_88 : decode cX3_reduceBy 88 = .ok (.getfield 11, 3) := dk_180 0 11 (dk_at dksX3_reduceBy_3 19 rfl rfl)
theorem dX3_reduceBy_91 : decode cX3_reduceBy 91 = .ok (.iload_n 3, 1) := dk_29 (dk_at dksX3_reduceBy_3 22 rfl rfl)
theorem dX3_reduceBy_92 : decode cX3_reduceBy 92 = .ok (.aload 6, 2) := dk_25 6 (dk_at dksX3_reduceBy_4 0 rfl rfl)
theorem dX3_reduceBy_94 : decode cX3_reduceBy 94 = .ok (.aastore, 1) := dk_83 (dk_at dksX3_reduceBy_4 2 rfl rfl)
theorem dX3_reduceBy_95 : decode cX3_reduceBy 95 = .ok (.iconst 0, 1) := dk_3 (dk_at dksX3_reduceBy_4 3 rfl rfl)
theorem dX3_reduceBy_96 : decode cX3_reduceBy 96 = .ok (.istore 7, 2) := dk_54 7 (dk_at dksX3_reduceBy_4 4 rfl rfl)
theorem dX3_reduceBy_98 : decode cX3_reduceBy 98 = .ok (.iload 7, 2) := dk_21 7 (dk_at dksX3_reduceBy_4 6 rfl rfl)
theorem dX3_reduceBy_100 : decode cX3_reduceBy 100 = .ok (.aload_n 0, 1) := dk_42 (dk_at dksX3_reduceBy_4 8 rfl rfl)
theorem dX3_reduceBy_101 : decode cX3_reduceBy 101 = .ok (.getfield 11, 3) := dk_180 0 11 (dk_at dksX3_reduceBy_4 9 rfl rfl)
theorem dX3_reduceBy_104 : decode cX3_reduceBy 104 = .ok (.arraylength, 1) := dk_190 (dk_at dksX3_reduceBy_4 12 rfl rfl)
theorem dX3_reduceBy_105 : decode cX3_reduceBy 105 = .ok (.if_icmp .ge 45, 3) := dk_162 0 45 (dk_at dksX3_reduceBy_4 13 rfl rfl)
theorem dX3_reduceBy_108 : decode cX3_reduceBy 108 = .ok (.iload 7, 2) := dk_21 7 (dk_at dksX3_reduceBy_4 16 rfl rfl)
theorem dX3_reduceBy_110 : decode cX3_reduceBy 110 = .ok (.iload_n 3, 1) := dk_29 (dk_at dksX3_reduceBy_4 18 rfl rfl)
theorem dX3_reduceBy_111 : decode cX3_reduceBy 111 = .ok (.if_icmp .eq 33, 3) := dk_159 0 33 (dk_at dksX3_reduceBy_4 19 rfl rfl)
theorem dX3_reduceBy_114 : decode cX3_reduceBy 114 = .ok (.aload_n 1, 1) := dk_43 (dk_at dksX3_reduceBy_4 22 rfl rfl)
theorem dX3_reduceBy_115 : decode cX3_reduceBy 115 = .ok (.aload_n 0, 1) := dk_42 (dk_at dksX3_reduceBy_4 23 rfl rfl)
theorem dX3_reduceBy_116 : decode cX3_reduceBy 116 = .ok (.getfield 11, 3) := dk_180 0 11 (dk_at dksX3_reduceBy_5 0 rfl rfl)
theorem dX3_reduceBy_119 : decode cX3_reduceBy 119 = .ok (.iload 7, 2) := dk_21 7 (dk_at dksX3_reduceBy_5 3 rfl rfl)
theorem dX3_reduceBy_121 : decode cX3_reduceBy 121 = .ok (.aaload, 1) := dk_50 (dk_at dksX3_reduceBy_5 5 rfl rfl)
theorem dX3_reduceBy_122 : decode cX3_reduceBy 122 = .ok (.iload 4, 2) := dk_21 4 (dk_at dksX3_reduceBy_5 6 rfl rfl)
theorem dX3_reduceBy_124 : decode cX3_reduceBy 124 = .ok (.invokeinterface 95 3, 5) := by decide +kernel
theorem dX3_reduceBy_129 : decode cX3_reduceBy 129 = .ok (.ifCond .eq 15, 3) := dk_153 0 15 (dk_at dksX3_reduceBy_5 13 rfl rfl)
theorem dX3_reduceBy_132 : decode cX3_reduceBy 132 = .ok (.aload_n 0, 1) := dk_42 (dk_at dksX3_reduceBy_5 16 rfl rfl)
theorem dX3_reduceBy_133 : decode cX3_reduceBy 133 = .ok (.getfield 11, 3) := dk_180 0 11 (dk_at dksX3_reduceBy_5 17 rfl rfl)
theorem dX3_reduceBy_136 : decode cX3_reduceBy 136 = .ok (.iload 7, 2) := dk_21 7 (dk_at dksX3_reduceBy_5 20 rfl rfl)
theorem dX3_reduceBy_138 : decode cX3_reduceBy 138 = .ok (.aaload, 1) := dk_50 (dk_at dksX3_reduceBy_5 22 rfl rfl)
theorem dX3_reduceBy_139 : decode cX3_reduceBy 139 = .ok (.aload 6, 2) := dk_25 6 (dk_at dksX3_reduceBy_6 0 rfl rfl)
theorem dX3_reduceBy_141 : decode cX3_reduceBy 141 = .ok (.invokevirtual 48, 3) := dk_182 0 48 (dk_at dksX3_reduceBy_6 2 rfl rfl)
theorem dX3_reduceBy_144 : decode cX3_reduceBy 144 = .ok (.iinc 7 1, 3) := dk_132 7 1 (dk_at dksX3_reduceBy_6 5 rfl rfl)
theorem dX3_reduceBy_147 : decode cX3_reduceBy 147 = .ok (.goto (-49), 3) := dk_167 255 207 (dk_at dksX3_reduceBy_6 8 rfl rfl)
theorem dX3_reduceBy_150 : decode cX3_reduceBy 150 = .ok (.iinc 3 1, 3) := dk_132 3 1 (dk_at dksX3_reduceBy_6 11 rfl rfl)
theorem dX3_reduceBy_153 : decode cX3_reduceBy 153 = .ok (.iinc 4 1, 3) := dk_132 4 1 (dk_at dksX3_reduceBy_6 14 rfl rfl)
theorem dX3_reduceBy_156 : decode cX3_reduceBy 156 = .ok (.goto (-151), 3) := dk_167 255 105 (dk_at dksX3_reduceBy_6 17 rfl rfl)
theorem dX3_reduceBy_159 : decode cX3_reduceBy 159 = .ok (.iload_n 3, 1) := dk_29 (dk_at dksX3_reduceBy_6 20 rfl rfl)
theorem dX3_reduceBy_160 : decode cX3_reduceBy 160 = .ok (.ireturn, 1) := dk_172 (dk_at dksX3_reduceBy_6 21 rfl rfl)
abbrev cX3_lambda_canonical_1 : ByteArray := prog_12_method_14_code
def yX3_lambda_canonical_1 : MethodName := ⟨RX3, "lambda$canonical$1", "(LStringTableau$Row;I)Z"⟩
def dkwX3_lambda_canonical_1_0 : List UInt8 := [42, 27, 182, 0, 126, 172]
abbrev dktX3_lambda_canonical_1_0 : List UInt8 := dkwX3_lambda_canonical_1_0 ++ []
theorem dksX3_lambda_canonical_1_0 : cX3_lambda_canonical_1.data.toList.drop 0 = dktX3_lambda_canonical_1_0 := by decide +kernel
theorem dX3_lambda_canonical_1_0 : decode cX3_lambda_canonical_1 0 = .ok (.aload_n 0, 1) := dk_42 (dk_at dksX3_lambda_canonical_1_0 0 rfl rfl)
theorem dX3_lambda_canonical_1_1 : decode cX3_lambda_canonical_1 1 = .ok (.iload_n 1, 1) := dk_27 (dk_at dksX3_lambda_canonical_1_0 1 rfl rfl)
theorem dX3_lambda_canonical_1_2 : decode cX3_lambda_canonical_1 2 = .ok (.invokevirtual 126, 3) := dk_182 0 126 (dk_at dksX3_lambda_canonical_1_0 2 rfl rfl)
theorem dX3_lambda_canonical_1_5 : decode cX3_lambda_canonical_1 5 = .ok (.ireturn, 1) := dk_172 (dk_at dksX3_lambda_canonical_1_0 5 rfl rfl)
abbrev cX3_difference : ByteArray := prog_12_method_3_code
def yX3_difference : MethodName := ⟨RX3, "difference", "(LStringTableau$Tableau;)I"⟩
def dkwX3_difference_1 : List UInt8 := [50, 182, 0, 27, 154, 0, 6, 132, 2, 1, 132, 3, 1, 167, 255, 223, 28, 172]
abbrev dktX3_difference_1 : List UInt8 := dkwX3_difference_1 ++ []
def dkwX3_difference_0 : List UInt8 := [3, 61, 3, 62, 29, 42, 180, 0, 11, 190, 162, 0, 30, 42, 180, 0, 11, 29, 50, 43, 180, 0, 11, 29]
abbrev dktX3_difference_0 : List UInt8 := dkwX3_difference_0 ++ dktX3_difference_1
theorem dksX3_difference_0 : cX3_difference.data.toList.drop 0 = dktX3_difference_0 := by decide +kernel
theorem dksX3_difference_1 : cX3_difference.data.toList.drop 24 = dktX3_difference_1 := dk_seg dksX3_difference_0 24 rfl rfl
theorem dX3_difference_0 : decode cX3_difference 0 = .ok (.iconst 0, 1) := dk_3 (dk_at dksX3_difference_0 0 rfl rfl)
theorem dX3_difference_1 : decode cX3_difference 1 = .ok (.istore_n 2, 1) := dk_61 (dk_at dksX3_difference_0 1 rfl rfl)
theorem dX3_difference_2 : decode cX3_difference 2 = .ok (.iconst 0, 1) := dk_3 (dk_at dksX3_difference_0 2 rfl rfl)
theorem dX3_difference_3 : decode cX3_difference 3 = .ok (.istore_n 3, 1) := dk_62 (dk_at dksX3_difference_0 3 rfl rfl)
theorem dX3_difference_4 : decode cX3_difference 4 = .ok (.iload_n 3, 1) := dk_29 (dk_at dksX3_difference_0 4 rfl rfl)
theorem dX3_difference_5 : decode cX3_difference 5 = .ok (.aload_n 0, 1) := dk_42 (dk_at dksX3_difference_0 5 rfl rfl)
theorem dX3_difference_6 : decode cX3_difference 6 = .ok (.getfield 11, 3) := dk_180 0 11 (dk_at dksX3_difference_0 6 rfl rfl)
theorem dX3_difference_9 : decode cX3_difference 9 = .ok (.arraylength, 1) := dk_190 (dk_at dksX3_difference_0 9 rfl rfl)
theorem dX3_difference_10 : decode cX3_difference 10 = .ok (.if_icmp .ge 30, 3) := dk_162 0 30 (dk_at dksX3_difference_0 10 rfl rfl)
theorem dX3_difference_13 : decode cX3_difference 13 = .ok (.aload_n 0, 1) := dk_42 (dk_at dksX3_difference_0 13 rfl rfl)
theorem dX3_difference_14 : decode cX3_difference 14 = .ok (.getfield 11, 3) := dk_180 0 11 (dk_at dksX3_difference_0 14 rfl rfl)
theorem dX3_difference_17 : decode cX3_difference 17 = .ok (.iload_n 3, 1) := dk_29 (dk_at dksX3_difference_0 17 rfl rfl)
theorem dX3_difference_18 : decode cX3_difference 18 = .ok (.aaload, 1) := dk_50 (dk_at dksX3_difference_0 18 rfl rfl)
theorem dX3_difference_19 : decode cX3_difference 19 = .ok (.aload_n 1, 1) := dk_43 (dk_at dksX3_difference_0 19 rfl rfl)
theorem dX3_difference_20 : decode cX3_difference 20 = .ok (.getfield 11, 3) := dk_180 0 11 (dk_at dksX3_difference_0 20 rfl rfl)
theorem dX3_difference_23 : decode cX3_difference 23 = .ok (.iload_n 3, 1) := dk_29 (dk_at dksX3_difference_0 23 rfl rfl)
theorem dX3_difference_24 : decode cX3_difference 24 = .ok (.aaload, 1) := dk_50 (dk_at dksX3_difference_1 0 rfl rfl)
theorem dX3_difference_25 : decode cX3_difference 25 = .ok (.invokevirtual 27, 3) := dk_182 0 27 (dk_at dksX3_difference_1 1 rfl rfl)
theorem dX3_difference_28 : decode cX3_difference 28 = .ok (.ifCond .ne 6, 3) := dk_154 0 6 (dk_at dksX3_difference_1 4 rfl rfl)
theorem dX3_difference_31 : decode cX3_difference 31 = .ok (.iinc 2 1, 3) := dk_132 2 1 (dk_at dksX3_difference_1 7 rfl rfl)
theorem dX3_difference_34 : decode cX3_difference 34 = .ok (.iinc 3 1, 3) := dk_132 3 1 (dk_at dksX3_difference_1 10 rfl rfl)
theorem dX3_difference_37 : decode cX3_difference 37 = .ok (.goto (-33), 3) := dk_167 255 223 (dk_at dksX3_difference_1 13 rfl rfl)
theorem dX3_difference_40 : decode cX3_difference 40 = .ok (.iload_n 2, 1) := dk_28 (dk_at dksX3_difference_1 16 rfl rfl)
theorem dX3_difference_41 : decode cX3_difference 41 = .ok (.ireturn, 1) := dk_172 (dk_at dksX3_difference_1 17 rfl rfl)
abbrev cX3_iterator : ByteArray := prog_12_method_7_code
def yX3_iterator : MethodName := ⟨RX3, "iterator", "()Ljava/util/Iterator;"⟩
def dkwX3_iterator_0 : List UInt8 := [187, 0, 52, 89, 42, 183, 0, 54, 176]
abbrev dktX3_iterator_0 : List UInt8 := dkwX3_iterator_0 ++ []
theorem dksX3_iterator_0 : cX3_iterator.data.toList.drop 0 = dktX3_iterator_0 := by decide +kernel
theorem dX3_iterator_0 : decode cX3_iterator 0 = .ok (.new 52, 3) := dk_187 0 52 (dk_at dksX3_iterator_0 0 rfl rfl)
theorem dX3_iterator_3 : decode cX3_iterator 3 = .ok (.dup, 1) := dk_89 (dk_at dksX3_iterator_0 3 rfl rfl)
theorem dX3_iterator_4 : decode cX3_iterator 4 = .ok (.aload_n 0, 1) := dk_42 (dk_at dksX3_iterator_0 4 rfl rfl)
theorem dX3_iterator_5 : decode cX3_iterator 5 = .ok (.invokespecial 54, 3) := dk_183 0 54 (dk_at dksX3_iterator_0 5 rfl rfl)
theorem dX3_iterator_8 : decode cX3_iterator 8 = .ok (.areturn, 1) := dk_176 (dk_at dksX3_iterator_0 8 rfl rfl)
abbrev cX3_supports : ByteArray := prog_12_method_13_code
def yX3_supports : MethodName := ⟨RX3, "supports", "()[I"⟩
def dkwX3_supports_2 : List UInt8 := [180, 0, 61, 128, 79, 132, 2, 1, 167, 255, 219, 43, 176]
abbrev dktX3_supports_2 : List UInt8 := dkwX3_supports_2 ++ []
def dkwX3_supports_1 : List UInt8 := [153, 0, 34, 45, 185, 0, 122, 1, 0, 192, 0, 9, 58, 4, 43, 28, 25, 4, 180, 0, 57, 25, 4]
abbrev dktX3_supports_1 : List UInt8 := dkwX3_supports_1 ++ dktX3_supports_2
def dkwX3_supports_0 : List UInt8 := [4, 42, 180, 0, 11, 190, 120, 188, 10, 76, 3, 61, 42, 182, 0, 112, 78, 45, 185, 0, 116, 1, 0]
abbrev dktX3_supports_0 : List UInt8 := dkwX3_supports_0 ++ dktX3_supports_1
theorem dksX3_supports_0 : cX3_supports.data.toList.drop 0 = dktX3_supports_0 := by decide +kernel
theorem dksX3_supports_1 : cX3_supports.data.toList.drop 23 = dktX3_supports_1 := dk_seg dksX3_supports_0 23 rfl rfl
theorem dksX3_supports_2 : cX3_supports.data.toList.drop 46 = dktX3_supports_2 := dk_seg dksX3_supports_1 23 rfl rfl
theorem dX3_supports_0 : decode cX3_supports 0 = .ok (.iconst 1, 1) := dk_4 (dk_at dksX3_supports_0 0 rfl rfl)
theorem dX3_supports_1 : decode cX3_supports 1 = .ok (.aload_n 0, 1) := dk_42 (dk_at dksX3_supports_0 1 rfl rfl)
theorem dX3_supports_2 : decode cX3_supports 2 = .ok (.getfield 11, 3) := dk_180 0 11 (dk_at dksX3_supports_0 2 rfl rfl)
theorem dX3_supports_5 : decode cX3_supports 5 = .ok (.arraylength, 1) := dk_190 (dk_at dksX3_supports_0 5 rfl rfl)
theorem dX3_supports_6 : decode cX3_supports 6 = .ok (.ishl, 1) := dk_120 (dk_at dksX3_supports_0 6 rfl rfl)
theorem dX3_supports_7 : decode cX3_supports 7 = .ok (.newarray .int, 2) := dk_188_10 (dk_at dksX3_supports_0 7 rfl rfl)
theorem dX3_supports_9 : decode cX3_supports 9 = .ok (.astore_n 1, 1) := dk_76 (dk_at dksX3_supports_0 9 rfl rfl)
theorem dX3_supports_10 : decode cX3_supports 10 = .ok (.iconst 0, 1) := dk_3 (dk_at dksX3_supports_0 10 rfl rfl)
theorem dX3_supports_11 : decode cX3_supports 11 = .ok (.istore_n 2, 1) := dk_61 (dk_at dksX3_supports_0 11 rfl rfl)
theorem dX3_supports_12 : decode cX3_supports 12 = .ok (.aload_n 0, 1) := dk_42 (dk_at dksX3_supports_0 12 rfl rfl)
theorem dX3_supports_13 : decode cX3_supports 13 = .ok (.invokevirtual 112, 3) := dk_182 0 112 (dk_at dksX3_supports_0 13 rfl rfl)
theorem dX3_supports_16 : decode cX3_supports 16 = .ok (.astore_n 3, 1) := dk_78 (dk_at dksX3_supports_0 16 rfl rfl)
theorem dX3_supports_17 : decode cX3_supports 17 = .ok (.aload_n 3, 1) := dk_45 (dk_at dksX3_supports_0 17 rfl rfl)
theorem dX3_supports_18 : decode cX3_supports 18 = .ok (.invokeinterface 116 1, 5) := by decide +kernel
theorem dX3_supports_23 : decode cX3_supports 23 = .ok (.ifCond .eq 34, 3) := dk_153 0 34 (dk_at dksX3_supports_1 0 rfl rfl)
theorem dX3_supports_26 : decode cX3_supports 26 = .ok (.aload_n 3, 1) := dk_45 (dk_at dksX3_supports_1 3 rfl rfl)
theorem dX3_supports_27 : decode cX3_supports 27 = .ok (.invokeinterface 122 1, 5) := by decide +kernel
theorem dX3_supports_32 : decode cX3_supports 32 = .ok (.checkcast 9, 3) := dk_192 0 9 (dk_at dksX3_supports_1 9 rfl rfl)
theorem dX3_supports_35 : decode cX3_supports 35 = .ok (.astore 4, 2) := dk_58 4 (dk_at dksX3_supports_1 12 rfl rfl)
theorem dX3_supports_37 : decode cX3_supports 37 = .ok (.aload_n 1, 1) := dk_43 (dk_at dksX3_supports_1 14 rfl rfl)
theorem dX3_supports_38 : decode cX3_supports 38 = .ok (.iload_n 2, 1) := dk_28 (dk_at dksX3_supports_1 15 rfl rfl)
theorem dX3_supports_39 : decode cX3_supports 39 = .ok (.aload 4, 2) := dk_25 4 (dk_at dksX3_supports_1 16 rfl rfl)
theorem dX3_supports_41 : decode cX3_supports 41 = .ok (.getfield 57, 3) := dk_180 0 57 (dk_at dksX3_supports_1 18 rfl rfl)
theorem dX3_supports_44 : decode cX3_supports 44 = .ok (.aload 4, 2) := dk_25 4 (dk_at dksX3_supports_1 21 rfl rfl)
theorem dX3_supports_46 : decode cX3_supports 46 = .ok (.getfield 61, 3) := dk_180 0 61 (dk_at dksX3_supports_2 0 rfl rfl)
theorem dX3_supports_49 : decode cX3_supports 49 = .ok (.ior, 1) := dk_128 (dk_at dksX3_supports_2 3 rfl rfl)
theorem dX3_supports_50 : decode cX3_supports 50 = .ok (.iastore, 1) := dk_79 (dk_at dksX3_supports_2 4 rfl rfl)
theorem dX3_supports_51 : decode cX3_supports 51 = .ok (.iinc 2 1, 3) := dk_132 2 1 (dk_at dksX3_supports_2 5 rfl rfl)
theorem dX3_supports_54 : decode cX3_supports 54 = .ok (.goto (-37), 3) := dk_167 255 219 (dk_at dksX3_supports_2 8 rfl rfl)
theorem dX3_supports_57 : decode cX3_supports 57 = .ok (.aload_n 1, 1) := dk_43 (dk_at dksX3_supports_2 11 rfl rfl)
theorem dX3_supports_58 : decode cX3_supports 58 = .ok (.areturn, 1) := dk_176 (dk_at dksX3_supports_2 12 rfl rfl)
abbrev cX3_signs : ByteArray := prog_12_method_9_code
def yX3_signs : MethodName := ⟨RX3, "signs", "()Ljava/util/Map;"⟩
def dkwX3_signs_2 : List UInt8 := [185, 0, 81, 3, 0, 87, 132, 4, 1, 167, 255, 221, 43, 176]
abbrev dktX3_signs_2 : List UInt8 := dkwX3_signs_2 ++ []
def dkwX3_signs_1 : List UInt8 := [162, 0, 35, 44, 21, 4, 50, 58, 5, 43, 25, 5, 182, 0, 67, 25, 5, 180, 0, 71, 184, 0, 75]
abbrev dktX3_signs_1 : List UInt8 := dkwX3_signs_1 ++ dktX3_signs_2
def dkwX3_signs_0 : List UInt8 := [187, 0, 64, 89, 183, 0, 66, 76, 42, 180, 0, 11, 77, 44, 190, 62, 3, 54, 4, 21, 4, 29]
abbrev dktX3_signs_0 : List UInt8 := dkwX3_signs_0 ++ dktX3_signs_1
theorem dksX3_signs_0 : cX3_signs.data.toList.drop 0 = dktX3_signs_0 := by decide +kernel
theorem dksX3_signs_1 : cX3_signs.data.toList.drop 22 = dktX3_signs_1 := dk_seg dksX3_signs_0 22 rfl rfl
theorem dksX3_signs_2 : cX3_signs.data.toList.drop 45 = dktX3_signs_2 := dk_seg dksX3_signs_1 23 rfl rfl
theorem dX3_signs_0 : decode cX3_signs 0 = .ok (.new 64, 3) := dk_187 0 64 (dk_at dksX3_signs_0 0 rfl rfl)
theorem dX3_signs_3 : decode cX3_signs 3 = .ok (.dup, 1) := dk_89 (dk_at dksX3_signs_0 3 rfl rfl)
theorem dX3_signs_4 : decode cX3_signs 4 = .ok (.invokespecial 66, 3) := dk_183 0 66 (dk_at dksX3_signs_0 4 rfl rfl)
theorem dX3_signs_7 : decode cX3_signs 7 = .ok (.astore_n 1, 1) := dk_76 (dk_at dksX3_signs_0 7 rfl rfl)
theorem dX3_signs_8 : decode cX3_signs 8 = .ok (.aload_n 0, 1) := dk_42 (dk_at dksX3_signs_0 8 rfl rfl)
theorem dX3_signs_9 : decode cX3_signs 9 = .ok (.getfield 11, 3) := dk_180 0 11 (dk_at dksX3_signs_0 9 rfl rfl)
theorem dX3_signs_12 : decode cX3_signs 12 = .ok (.astore_n 2, 1) := dk_77 (dk_at dksX3_signs_0 12 rfl rfl)
theorem dX3_signs_13 : decode cX3_signs 13 = .ok (.aload_n 2, 1) := dk_44 (dk_at dksX3_signs_0 13 rfl rfl)
theorem dX3_signs_14 : decode cX3_signs 14 = .ok (.arraylength, 1) := dk_190 (dk_at dksX3_signs_0 14 rfl rfl)
theorem dX3_signs_15 : decode cX3_signs 15 = .ok (.istore_n 3, 1) := dk_62 (dk_at dksX3_signs_0 15 rfl rfl)
theorem dX3_signs_16 : decode cX3_signs 16 = .ok (.iconst 0, 1) := dk_3 (dk_at dksX3_signs_0 16 rfl rfl)
theorem dX3_signs_17 : decode cX3_signs 17 = .ok (.istore 4, 2) := dk_54 4 (dk_at dksX3_signs_0 17 rfl rfl)
theorem dX3_signs_19 : decode cX3_signs 19 = .ok (.iload 4, 2) := dk_21 4 (dk_at dksX3_signs_0 19 rfl rfl)
theorem dX3_signs_21 : decode cX3_signs 21 = .ok (.iload_n 3, 1) := dk_29 (dk_at dksX3_signs_0 21 rfl rfl)
theorem dX3_signs_22 : decode cX3_signs 22 = .ok (.if_icmp .ge 35, 3) := dk_162 0 35 (dk_at dksX3_signs_1 0 rfl rfl)
theorem dX3_signs_25 : decode cX3_signs 25 = .ok (.aload_n 2, 1) := dk_44 (dk_at dksX3_signs_1 3 rfl rfl)
theorem dX3_signs_26 : decode cX3_signs 26 = .ok (.iload 4, 2) := dk_21 4 (dk_at dksX3_signs_1 4 rfl rfl)
theorem dX3_signs_28 : decode cX3_signs 28 = .ok (.aaload, 1) := dk_50 (dk_at dksX3_signs_1 6 rfl rfl)
theorem dX3_signs_29 : decode cX3_signs 29 = .ok (.astore 5, 2) := dk_58 5 (dk_at dksX3_signs_1 7 rfl rfl)
theorem dX3_signs_31 : decode cX3_signs 31 = .ok (.aload_n 1, 1) := dk_43 (dk_at dksX3_signs_1 9 rfl rfl)
theorem dX3_signs_32 : decode cX3_signs 32 = .ok (.aload 5, 2) := dk_25 5 (dk_at dksX3_signs_1 10 rfl rfl)
theorem dX3_signs_34 : decode cX3_signs 34 = .ok (.invokevirtual 67, 3) := dk_182 0 67 (dk_at dksX3_signs_1 12 rfl rfl)
theorem dX3_signs_37 : decode cX3_signs 37 = .ok (.aload 5, 2) := dk_25 5 (dk_at dksX3_signs_1 15 rfl rfl)
theorem dX3_signs_39 : decode cX3_signs 39 = .ok (.getfield 71, 3) := dk_180 0 71 (dk_at dksX3_signs_1 17 rfl rfl)
theorem dX3_signs_42 : decode cX3_signs 42 = .ok (.invokestatic 75, 3) := dk_184 0 75 (dk_at dksX3_signs_1 20 rfl rfl)
theorem dX3_signs_45 : decode cX3_signs 45 = .ok (.invokeinterface 81 3, 5) := by decide +kernel
theorem dX3_signs_50 : decode cX3_signs 50 = .ok (.pop, 1) := dk_87 (dk_at dksX3_signs_2 5 rfl rfl)
theorem dX3_signs_51 : decode cX3_signs 51 = .ok (.iinc 4 1, 3) := dk_132 4 1 (dk_at dksX3_signs_2 6 rfl rfl)
theorem dX3_signs_54 : decode cX3_signs 54 = .ok (.goto (-35), 3) := dk_167 255 221 (dk_at dksX3_signs_2 9 rfl rfl)
theorem dX3_signs_57 : decode cX3_signs 57 = .ok (.aload_n 1, 1) := dk_43 (dk_at dksX3_signs_2 12 rfl rfl)
theorem dX3_signs_58 : decode cX3_signs 58 = .ok (.areturn, 1) := dk_176 (dk_at dksX3_signs_2 13 rfl rfl)
theorem q126 : (Jvm.Cond.initialized "StringTableau$Tableau") ∈ lw_all := lw_g (lw_at lw_m1 7 rfl) rfl
theorem q234 : (Jvm.Cond.instantiable "StringTableau$Tableau" (1 : Nat)) ∈ lw_all := lw_g (lw_at lw_m1 115 rfl) rfl
theorem q236 : (Jvm.Cond.instanceMethod ({ cls := "StringTableau$Tableau", name := "<init>", desc := "(I)V" } : Jvm.MethodName)) ∈ lw_all := lw_g (lw_at lw_m1 117 rfl) rfl
theorem q237 : (Jvm.Cond.code ({ cls := "StringTableau$Tableau", name := "<init>", desc := "(I)V" } : Jvm.MethodName) prog_12_method_1_code (3 : Nat) (Option.none : Option Jvm.ClassFile.FieldType)) ∈ lw_all := lw_g (lw_at lw_m1 118 rfl) rfl
theorem q238 : (Jvm.Cond.methodLink "StringTableau$Tableau" (3 : Nat) ({ cls := "java/lang/Object", name := "<init>", desc := "()V" } : Jvm.MethodName)) ∈ lw_all := lw_g (lw_at lw_m1 119 rfl) rfl
theorem q239 : (Jvm.Cond.classLink "StringTableau$Tableau" (9 : Nat) "StringTableau$Row") ∈ lw_all := lw_g (lw_at lw_m1 120 rfl) rfl
theorem q242 : (Jvm.Cond.methodLink "StringTableau$Tableau" (17 : Nat) ({ cls := "StringTableau$Row", name := "<init>", desc := "(IIZ)V" } : Jvm.MethodName)) ∈ lw_all := lw_g (lw_at lw_m1 123 rfl) rfl
theorem q249 : (Jvm.Cond.fieldLinkNest "StringTableau$Tableau" (57 : Nat) "StringTableau$Row" "x" "I" "StringTableau") ∈ lw_tbl := lw_at lw_m1 130 rfl
theorem q254 : (Jvm.Cond.fieldLinkNest "StringTableau$Tableau" (61 : Nat) "StringTableau$Row" "z" "I" "StringTableau") ∈ lw_tbl := lw_at lw_m1 135 rfl
theorem q257 : (Jvm.Cond.fieldLinkNest "StringTableau$Tableau" (71 : Nat) "StringTableau$Row" "minus" "Z" "StringTableau") ∈ lw_tbl := lw_at lw_m1 138 rfl
theorem q268 : (Jvm.Cond.fieldLink "StringTableau$Tableau" (11 : Nat) "StringTableau$Tableau" "rows" "[LStringTableau$Row;") ∈ lw_all := lw_g (lw_at lw_m1 149 rfl) rfl
theorem q272 : (Jvm.Cond.laysFinal "StringTableau$Tableau" "StringTableau$Tableau" "rows" "[LStringTableau$Row;") ∈ lw_all := lw_g (lw_at lw_m1 153 rfl) rfl
theorem q273 : (Jvm.Cond.soleField "StringTableau$Tableau" "rows") ∈ lw_all := lw_g (lw_at lw_m1 154 rfl) rfl
theorem q274 : (Jvm.Cond.superclass "StringTableau$Tableau" "java/lang/Object") ∈ lw_all := lw_g (lw_at lw_m1 155 rfl) rfl
theorem q1053 : (Jvm.Cond.selects "StringTableau$Tableau" ({ cls := "java/lang/Object", name := "getClass", desc := "()Ljava/lang/Class;" } : Jvm.MethodName) ({ cls := "java/lang/Object", name := "getClass", desc := "()Ljava/lang/Class;" } : Jvm.MethodName)) ∈ lw_all := lw_g (lw_at lw_m4 214 rfl) rfl
theorem q1199 : (Jvm.Cond.instanceMethod ({ cls := "StringTableau$Tableau", name := "against", desc := "(II)I" } : Jvm.MethodName)) ∈ lw_all := lw_g (lw_at lw_m5 120 rfl) rfl
theorem q1200 : (Jvm.Cond.selects "StringTableau$Tableau" ({ cls := "StringTableau$Tableau", name := "against", desc := "(II)I" } : Jvm.MethodName) ({ cls := "StringTableau$Tableau", name := "against", desc := "(II)I" } : Jvm.MethodName)) ∈ lw_all := lw_g (lw_at lw_m5 121 rfl) rfl
theorem q1201 : (Jvm.Cond.code ({ cls := "StringTableau$Tableau", name := "against", desc := "(II)I" } : Jvm.MethodName) prog_12_method_5_code (5 : Nat) (Option.some Jvm.ClassFile.FieldType.int)) ∈ lw_all := lw_g (lw_at lw_m5 122 rfl) rfl
theorem q1202 : (Jvm.Cond.methodLink "StringTableau$Tableau" (41 : Nat) ({ cls := "StringTableau$Row", name := "commutes", desc := "(II)Z" } : Jvm.MethodName)) ∈ lw_all := lw_g (lw_at lw_m5 123 rfl) rfl
theorem q1216 : (Jvm.Cond.instanceMethod ({ cls := "StringTableau$Tableau", name := "contains", desc := "(LStringTableau$Row;)I" } : Jvm.MethodName)) ∈ lw_all := lw_g (lw_at lw_m5 137 rfl) rfl
theorem q1217 : (Jvm.Cond.selects "StringTableau$Tableau" ({ cls := "StringTableau$Tableau", name := "contains", desc := "(LStringTableau$Row;)I" } : Jvm.MethodName) ({ cls := "StringTableau$Tableau", name := "contains", desc := "(LStringTableau$Row;)I" } : Jvm.MethodName)) ∈ lw_all := lw_g (lw_at lw_m5 138 rfl) rfl
theorem q1218 : (Jvm.Cond.code ({ cls := "StringTableau$Tableau", name := "contains", desc := "(LStringTableau$Row;)I" } : Jvm.MethodName) prog_12_method_10_code (3 : Nat) (Option.some Jvm.ClassFile.FieldType.int)) ∈ lw_all := lw_g (lw_at lw_m5 139 rfl) rfl
theorem q1219 : (Jvm.Cond.methodLink "StringTableau$Tableau" (87 : Nat) ({ cls := "StringTableau$Tableau", name := "decompose", desc := "(II)I" } : Jvm.MethodName)) ∈ lw_all := lw_g (lw_at lw_m5 140 rfl) rfl
theorem q1220 : (Jvm.Cond.instanceMethod ({ cls := "StringTableau$Tableau", name := "decompose", desc := "(II)I" } : Jvm.MethodName)) ∈ lw_all := lw_g (lw_at lw_m5 141 rfl) rfl
theorem q1221 : (Jvm.Cond.selects "StringTableau$Tableau" ({ cls := "StringTableau$Tableau", name := "decompose", desc := "(II)I" } : Jvm.MethodName) ({ cls := "StringTableau$Tableau", name := "decompose", desc := "(II)I" } : Jvm.MethodName)) ∈ lw_all := lw_g (lw_at lw_m5 142 rfl) rfl
theorem q1222 : (Jvm.Cond.code ({ cls := "StringTableau$Tableau", name := "decompose", desc := "(II)I" } : Jvm.MethodName) prog_12_method_8_code (7 : Nat) (Option.some Jvm.ClassFile.FieldType.int)) ∈ lw_all := lw_g (lw_at lw_m5 143 rfl) rfl
theorem q1223 : (Jvm.Cond.methodLinkNest "StringTableau$Tableau" (45 : Nat) ({ cls := "StringTableau", name := "has", desc := "(II)Z" } : Jvm.MethodName) "StringTableau") ∈ lw_tbl := lw_at lw_m5 144 rfl
theorem q1226 : (Jvm.Cond.methodLink "StringTableau$Tableau" (91 : Nat) ({ cls := "StringTableau$Tableau", name := "element", desc := "(I)LStringTableau$Row;" } : Jvm.MethodName)) ∈ lw_all := lw_g (lw_at lw_m5 147 rfl) rfl
theorem q1227 : (Jvm.Cond.instanceMethod ({ cls := "StringTableau$Tableau", name := "element", desc := "(I)LStringTableau$Row;" } : Jvm.MethodName)) ∈ lw_all := lw_g (lw_at lw_m5 148 rfl) rfl
theorem q1228 : (Jvm.Cond.selects "StringTableau$Tableau" ({ cls := "StringTableau$Tableau", name := "element", desc := "(I)LStringTableau$Row;" } : Jvm.MethodName) ({ cls := "StringTableau$Tableau", name := "element", desc := "(I)LStringTableau$Row;" } : Jvm.MethodName)) ∈ lw_all := lw_g (lw_at lw_m5 149 rfl) rfl
theorem q1229 : (Jvm.Cond.code ({ cls := "StringTableau$Tableau", name := "element", desc := "(I)LStringTableau$Row;" } : Jvm.MethodName) prog_12_method_6_code (4 : Nat) (Option.some (Jvm.ClassFile.FieldType.object "StringTableau$Row"))) ∈ lw_all := lw_g (lw_at lw_m5 150 rfl) rfl
theorem q1230 : (Jvm.Cond.methodLink "StringTableau$Tableau" (48 : Nat) ({ cls := "StringTableau$Row", name := "multiply", desc := "(LStringTableau$Row;)V" } : Jvm.MethodName)) ∈ lw_all := lw_g (lw_at lw_m5 151 rfl) rfl
theorem q1300 : (Jvm.Cond.instanceMethod ({ cls := "StringTableau$Tableau", name := "copy", desc := "()LStringTableau$Tableau;" } : Jvm.MethodName)) ∈ lw_all := lw_g (lw_at lw_m5 221 rfl) rfl
theorem q1301 : (Jvm.Cond.selects "StringTableau$Tableau" ({ cls := "StringTableau$Tableau", name := "copy", desc := "()LStringTableau$Tableau;" } : Jvm.MethodName) ({ cls := "StringTableau$Tableau", name := "copy", desc := "()LStringTableau$Tableau;" } : Jvm.MethodName)) ∈ lw_all := lw_g (lw_at lw_m5 222 rfl) rfl
theorem q1302 : (Jvm.Cond.code ({ cls := "StringTableau$Tableau", name := "copy", desc := "()LStringTableau$Tableau;" } : Jvm.MethodName) prog_12_method_2_code (3 : Nat) (Option.some (Jvm.ClassFile.FieldType.object "StringTableau$Tableau"))) ∈ lw_all := lw_g (lw_at lw_m5 223 rfl) rfl
theorem q1303 : (Jvm.Cond.classLink "StringTableau$Tableau" (12 : Nat) "StringTableau$Tableau") ∈ lw_all := lw_g (lw_at lw_m5 224 rfl) rfl
theorem q1304 : (Jvm.Cond.methodLink "StringTableau$Tableau" (20 : Nat) ({ cls := "StringTableau$Tableau", name := "<init>", desc := "(I)V" } : Jvm.MethodName)) ∈ lw_all := lw_g (lw_at lw_m5 225 rfl) rfl
theorem q1305 : (Jvm.Cond.methodLink "StringTableau$Tableau" (23 : Nat) ({ cls := "StringTableau$Row", name := "copy", desc := "()LStringTableau$Row;" } : Jvm.MethodName)) ∈ lw_all := lw_g (lw_at lw_m5 226 rfl) rfl
theorem q1477 : (Jvm.Cond.instanceMethod ({ cls := "StringTableau$Tableau", name := "gate", desc := "(III)V" } : Jvm.MethodName)) ∈ lw_all := lw_g (lw_at lw_m6 158 rfl) rfl
theorem q1478 : (Jvm.Cond.selects "StringTableau$Tableau" ({ cls := "StringTableau$Tableau", name := "gate", desc := "(III)V" } : Jvm.MethodName) ({ cls := "StringTableau$Tableau", name := "gate", desc := "(III)V" } : Jvm.MethodName)) ∈ lw_all := lw_g (lw_at lw_m6 159 rfl) rfl
theorem q1479 : (Jvm.Cond.code ({ cls := "StringTableau$Tableau", name := "gate", desc := "(III)V" } : Jvm.MethodName) prog_12_method_4_code (9 : Nat) (Option.none : Option Jvm.ClassFile.FieldType)) ∈ lw_all := lw_g (lw_at lw_m6 160 rfl) rfl
theorem q1480 : (Jvm.Cond.methodLinkNest "StringTableau$Tableau" (31 : Nat) ({ cls := "StringTableau", name := "gateOf", desc := "(I)LStringTableau$Gate;" } : Jvm.MethodName) "StringTableau") ∈ lw_tbl := lw_at lw_m6 161 rfl
theorem q1545 : (Jvm.Cond.interfaceEntry "StringTableau$Tableau" (35 : Nat)) ∈ lw_tbl := lw_at lw_m6 226 rfl
theorem q1546 : (Jvm.Cond.methodLink "StringTableau$Tableau" (35 : Nat) ({ cls := "StringTableau$Gate", name := "on", desc := "(LStringTableau$Row;II)V" } : Jvm.MethodName)) ∈ lw_all := lw_g (lw_at lw_m6 227 rfl) rfl
theorem q1603 : (Jvm.Cond.instanceMethod ({ cls := "StringTableau$Tableau", name := "canonical", desc := "()LStringTableau$Tableau;" } : Jvm.MethodName)) ∈ lw_all := lw_g (lw_at lw_m7 44 rfl) rfl
theorem q1604 : (Jvm.Cond.selects "StringTableau$Tableau" ({ cls := "StringTableau$Tableau", name := "canonical", desc := "()LStringTableau$Tableau;" } : Jvm.MethodName) ({ cls := "StringTableau$Tableau", name := "canonical", desc := "()LStringTableau$Tableau;" } : Jvm.MethodName)) ∈ lw_all := lw_g (lw_at lw_m7 45 rfl) rfl
theorem q1605 : (Jvm.Cond.code ({ cls := "StringTableau$Tableau", name := "canonical", desc := "()LStringTableau$Tableau;" } : Jvm.MethodName) prog_12_method_12_code (4 : Nat) (Option.some (Jvm.ClassFile.FieldType.object "StringTableau$Tableau"))) ∈ lw_all := lw_g (lw_at lw_m7 46 rfl) rfl
theorem q1606 : (Jvm.Cond.methodLink "StringTableau$Tableau" (101 : Nat) ({ cls := "StringTableau$Tableau", name := "copy", desc := "()LStringTableau$Tableau;" } : Jvm.MethodName)) ∈ lw_all := lw_g (lw_at lw_m7 47 rfl) rfl
theorem q1607 : (Jvm.Cond.static ({ cls := "StringTableau$Tableau", name := "lambda$canonical$0", desc := "(LStringTableau$Row;I)Z" } : Jvm.MethodName)) ∈ lw_all := lw_g (lw_at lw_m7 48 rfl) rfl
theorem q1608 : (Jvm.Cond.code ({ cls := "StringTableau$Tableau", name := "lambda$canonical$0", desc := "(LStringTableau$Row;I)Z" } : Jvm.MethodName) prog_12_method_15_code (2 : Nat) (Option.some Jvm.ClassFile.FieldType.boolean)) ∈ lw_all := lw_g (lw_at lw_m7 49 rfl) rfl
theorem q1609 : (Jvm.Cond.methodLinkNest "StringTableau$Tableau" (130 : Nat) ({ cls := "StringTableau$Row", name := "hasX", desc := "(I)Z" } : Jvm.MethodName) "StringTableau") ∈ lw_tbl := lw_at lw_m7 50 rfl
theorem q1610 : (Jvm.Cond.methodLink "StringTableau$Tableau" (107 : Nat) ({ cls := "StringTableau$Tableau", name := "reduceBy", desc := "(LStringTableau$Bit;I)I" } : Jvm.MethodName)) ∈ lw_all := lw_g (lw_at lw_m7 51 rfl) rfl
theorem q1611 : (Jvm.Cond.privateMethod ({ cls := "StringTableau$Tableau", name := "reduceBy", desc := "(LStringTableau$Bit;I)I" } : Jvm.MethodName)) ∈ lw_tbl := lw_at lw_m7 52 rfl
theorem q1612 : (Jvm.Cond.instanceMethod ({ cls := "StringTableau$Tableau", name := "reduceBy", desc := "(LStringTableau$Bit;I)I" } : Jvm.MethodName)) ∈ lw_all := lw_g (lw_at lw_m7 53 rfl) rfl
theorem q1613 : (Jvm.Cond.code ({ cls := "StringTableau$Tableau", name := "reduceBy", desc := "(LStringTableau$Bit;I)I" } : Jvm.MethodName) prog_12_method_11_code (8 : Nat) (Option.some Jvm.ClassFile.FieldType.int)) ∈ lw_all := lw_g (lw_at lw_m7 54 rfl) rfl
theorem q1614 : (Jvm.Cond.interfaceEntry "StringTableau$Tableau" (95 : Nat)) ∈ lw_tbl := lw_at lw_m7 55 rfl
theorem q1615 : (Jvm.Cond.methodLink "StringTableau$Tableau" (95 : Nat) ({ cls := "StringTableau$Bit", name := "of", desc := "(LStringTableau$Row;I)Z" } : Jvm.MethodName)) ∈ lw_all := lw_g (lw_at lw_m7 56 rfl) rfl
theorem q1618 : (Jvm.Cond.static ({ cls := "StringTableau$Tableau", name := "lambda$canonical$1", desc := "(LStringTableau$Row;I)Z" } : Jvm.MethodName)) ∈ lw_all := lw_g (lw_at lw_m7 59 rfl) rfl
theorem q1619 : (Jvm.Cond.code ({ cls := "StringTableau$Tableau", name := "lambda$canonical$1", desc := "(LStringTableau$Row;I)Z" } : Jvm.MethodName) prog_12_method_14_code (2 : Nat) (Option.some Jvm.ClassFile.FieldType.boolean)) ∈ lw_all := lw_g (lw_at lw_m7 60 rfl) rfl
theorem q1620 : (Jvm.Cond.methodLinkNest "StringTableau$Tableau" (126 : Nat) ({ cls := "StringTableau$Row", name := "hasZ", desc := "(I)Z" } : Jvm.MethodName) "StringTableau") ∈ lw_tbl := lw_at lw_m7 61 rfl
theorem q1626 : (Jvm.Cond.instanceMethod ({ cls := "StringTableau$Tableau", name := "difference", desc := "(LStringTableau$Tableau;)I" } : Jvm.MethodName)) ∈ lw_all := lw_g (lw_at lw_m7 67 rfl) rfl
theorem q1627 : (Jvm.Cond.selects "StringTableau$Tableau" ({ cls := "StringTableau$Tableau", name := "difference", desc := "(LStringTableau$Tableau;)I" } : Jvm.MethodName) ({ cls := "StringTableau$Tableau", name := "difference", desc := "(LStringTableau$Tableau;)I" } : Jvm.MethodName)) ∈ lw_all := lw_g (lw_at lw_m7 68 rfl) rfl
theorem q1628 : (Jvm.Cond.code ({ cls := "StringTableau$Tableau", name := "difference", desc := "(LStringTableau$Tableau;)I" } : Jvm.MethodName) prog_12_method_3_code (4 : Nat) (Option.some Jvm.ClassFile.FieldType.int)) ∈ lw_all := lw_g (lw_at lw_m7 69 rfl) rfl
theorem q1629 : (Jvm.Cond.methodLink "StringTableau$Tableau" (27 : Nat) ({ cls := "StringTableau$Row", name := "isLike", desc := "(LStringTableau$Row;)Z" } : Jvm.MethodName)) ∈ lw_all := lw_g (lw_at lw_m7 70 rfl) rfl
theorem q1638 : (Jvm.Cond.instanceMethod ({ cls := "StringTableau$Tableau", name := "iterator", desc := "()Ljava/util/Iterator;" } : Jvm.MethodName)) ∈ lw_all := lw_g (lw_at lw_m7 79 rfl) rfl
theorem q1639 : (Jvm.Cond.selects "StringTableau$Tableau" ({ cls := "StringTableau$Tableau", name := "iterator", desc := "()Ljava/util/Iterator;" } : Jvm.MethodName) ({ cls := "StringTableau$Tableau", name := "iterator", desc := "()Ljava/util/Iterator;" } : Jvm.MethodName)) ∈ lw_all := lw_g (lw_at lw_m7 80 rfl) rfl
theorem q1640 : (Jvm.Cond.code ({ cls := "StringTableau$Tableau", name := "iterator", desc := "()Ljava/util/Iterator;" } : Jvm.MethodName) prog_12_method_7_code (1 : Nat) (Option.some (Jvm.ClassFile.FieldType.object "java/util/Iterator"))) ∈ lw_all := lw_g (lw_at lw_m7 81 rfl) rfl
theorem q1641 : (Jvm.Cond.classLink "StringTableau$Tableau" (52 : Nat) "StringTableau$Tableau$1") ∈ lw_all := lw_g (lw_at lw_m7 82 rfl) rfl
theorem q1643 : (Jvm.Cond.methodLink "StringTableau$Tableau" (54 : Nat) ({ cls := "StringTableau$Tableau$1", name := "<init>", desc := "(LStringTableau$Tableau;)V" } : Jvm.MethodName)) ∈ lw_all := lw_g (lw_at lw_m7 84 rfl) rfl
theorem q1669 : (Jvm.Cond.instanceMethod ({ cls := "StringTableau$Tableau", name := "supports", desc := "()[I" } : Jvm.MethodName)) ∈ lw_all := lw_g (lw_at lw_m7 110 rfl) rfl
theorem q1670 : (Jvm.Cond.selects "StringTableau$Tableau" ({ cls := "StringTableau$Tableau", name := "supports", desc := "()[I" } : Jvm.MethodName) ({ cls := "StringTableau$Tableau", name := "supports", desc := "()[I" } : Jvm.MethodName)) ∈ lw_all := lw_g (lw_at lw_m7 111 rfl) rfl
theorem q1671 : (Jvm.Cond.code ({ cls := "StringTableau$Tableau", name := "supports", desc := "()[I" } : Jvm.MethodName) prog_12_method_13_code (5 : Nat) (Option.some (Jvm.ClassFile.FieldType.array Jvm.ClassFile.FieldType.int))) ∈ lw_all := lw_g (lw_at lw_m7 112 rfl) rfl
theorem q1672 : (Jvm.Cond.methodLink "StringTableau$Tableau" (112 : Nat) ({ cls := "StringTableau$Tableau", name := "iterator", desc := "()Ljava/util/Iterator;" } : Jvm.MethodName)) ∈ lw_all := lw_g (lw_at lw_m7 113 rfl) rfl
theorem q1673 : (Jvm.Cond.interfaceEntry "StringTableau$Tableau" (116 : Nat)) ∈ lw_tbl := lw_at lw_m7 114 rfl
theorem q1674 : (Jvm.Cond.methodLink "StringTableau$Tableau" (116 : Nat) ({ cls := "java/util/Iterator", name := "hasNext", desc := "()Z" } : Jvm.MethodName)) ∈ lw_all := lw_g (lw_at lw_m7 115 rfl) rfl
theorem q1675 : (Jvm.Cond.interfaceEntry "StringTableau$Tableau" (122 : Nat)) ∈ lw_tbl := lw_at lw_m7 116 rfl
theorem q1676 : (Jvm.Cond.methodLink "StringTableau$Tableau" (122 : Nat) ({ cls := "java/util/Iterator", name := "next", desc := "()Ljava/lang/Object;" } : Jvm.MethodName)) ∈ lw_all := lw_g (lw_at lw_m7 117 rfl) rfl
theorem q2154 : (Jvm.Cond.instanceMethod ({ cls := "StringTableau$Tableau", name := "signs", desc := "()Ljava/util/Map;" } : Jvm.MethodName)) ∈ lw_all := lw_g (lw_at lw_m9 115 rfl) rfl
theorem q2155 : (Jvm.Cond.selects "StringTableau$Tableau" ({ cls := "StringTableau$Tableau", name := "signs", desc := "()Ljava/util/Map;" } : Jvm.MethodName) ({ cls := "StringTableau$Tableau", name := "signs", desc := "()Ljava/util/Map;" } : Jvm.MethodName)) ∈ lw_all := lw_g (lw_at lw_m9 116 rfl) rfl
theorem q2156 : (Jvm.Cond.code ({ cls := "StringTableau$Tableau", name := "signs", desc := "()Ljava/util/Map;" } : Jvm.MethodName) prog_12_method_9_code (6 : Nat) (Option.some (Jvm.ClassFile.FieldType.object "java/util/Map"))) ∈ lw_all := lw_g (lw_at lw_m9 117 rfl) rfl
theorem q2157 : (Jvm.Cond.classLink "StringTableau$Tableau" (64 : Nat) "java/util/LinkedHashMap") ∈ lw_all := lw_g (lw_at lw_m9 118 rfl) rfl
theorem q2159 : (Jvm.Cond.methodLink "StringTableau$Tableau" (66 : Nat) ({ cls := "java/util/LinkedHashMap", name := "<init>", desc := "()V" } : Jvm.MethodName)) ∈ lw_all := lw_g (lw_at lw_m9 120 rfl) rfl
theorem q2206 : (Jvm.Cond.methodLink "StringTableau$Tableau" (67 : Nat) ({ cls := "StringTableau$Row", name := "word", desc := "()LStringTableau$Word;" } : Jvm.MethodName)) ∈ lw_all := lw_g (lw_at lw_m9 167 rfl) rfl
theorem q2223 : (Jvm.Cond.methodLink "StringTableau$Tableau" (75 : Nat) ({ cls := "java/lang/Boolean", name := "valueOf", desc := "(Z)Ljava/lang/Boolean;" } : Jvm.MethodName)) ∈ lw_all := lw_g (lw_at lw_m9 184 rfl) rfl
theorem q2230 : (Jvm.Cond.interfaceEntry "StringTableau$Tableau" (81 : Nat)) ∈ lw_tbl := lw_at lw_m9 191 rfl
theorem q2231 : (Jvm.Cond.methodLink "StringTableau$Tableau" (81 : Nat) ({ cls := "java/util/Map", name := "put", desc := "(Ljava/lang/Object;Ljava/lang/Object;)Ljava/lang/Object;" } : Jvm.MethodName)) ∈ lw_all := lw_g (lw_at lw_m9 192 rfl) rfl
theorem q2255 : (Jvm.Cond.selects "StringTableau$Tableau" ({ cls := "java/lang/Object", name := "hashCode", desc := "()I" } : Jvm.MethodName) ({ cls := "java/lang/Object", name := "hashCode", desc := "()I" } : Jvm.MethodName)) ∈ lw_all := lw_g (lw_at lw_m9 216 rfl) rfl
theorem q2612 : (Jvm.Cond.selects "StringTableau$Tableau" ({ cls := "java/lang/Object", name := "equals", desc := "(Ljava/lang/Object;)Z" } : Jvm.MethodName) ({ cls := "java/lang/Object", name := "equals", desc := "(Ljava/lang/Object;)Z" } : Jvm.MethodName)) ∈ lw_all := lw_g (lw_at lw_m11 93 rfl) rfl
theorem q3548 : (Jvm.Cond.castable "StringTableau$Tableau" "java/lang/Object") ∈ lw_tbl := lw_at lw_m15 69 rfl
theorem in_X3 : ∀ w ∈ wsX30, w ∈ lw_all := lw_in wsX30 [272] (by decide +kernel) (by decide +kernel)

/-! StringTableau$Row -/
set_option maxRecDepth 100000
def RX4 : String := "StringTableau$Row"
def TX4 : u_T := fun k => match k with
  | 0 => ("StringTableau$Row", "x", "I", false)
  | 1 => ("StringTableau$Row", "z", "I", false)
  | _ => ("StringTableau$Row", "minus", "Z", false)
def tyX4 : Nat → FieldType := fun k => match k with
  | 0 => .int
  | 1 => .int
  | _ => .boolean
abbrev wsX40 : List Cond := u_ws RX4 TX4 3
theorem nmX4 : ∀ a, a < 3 → ∀ b, b < 3 → a ≠ b → (TX4 a).2.1 ≠ (TX4 b).2.1 := by decide +kernel
theorem tyX4_ok : ∀ k, k < 3 → parseFieldDescriptor (TX4 k).2.2.1 = some (tyX4 k) := by decide +kernel
abbrev cX4_init : ByteArray := prog_10_method_1_code
def yX4_init : MethodName := ⟨RX4, "<init>", "(IIZ)V"⟩
def dkwX4_init_0 : List UInt8 := [42, 183, 0, 1, 42, 27, 181, 0, 7, 42, 28, 181, 0, 13, 42, 29, 181, 0, 16, 177]
abbrev dktX4_init_0 : List UInt8 := dkwX4_init_0 ++ []
theorem dksX4_init_0 : cX4_init.data.toList.drop 0 = dktX4_init_0 := by decide +kernel
theorem dX4_init_0 : decode cX4_init 0 = .ok (.aload_n 0, 1) := dk_42 (dk_at dksX4_init_0 0 rfl rfl)
theorem dX4_init_1 : decode cX4_init 1 = .ok (.invokespecial 1, 3) := dk_183 0 1 (dk_at dksX4_init_0 1 rfl rfl)
theorem dX4_init_4 : decode cX4_init 4 = .ok (.aload_n 0, 1) := dk_42 (dk_at dksX4_init_0 4 rfl rfl)
theorem dX4_init_5 : decode cX4_init 5 = .ok (.iload_n 1, 1) := dk_27 (dk_at dksX4_init_0 5 rfl rfl)
theorem dX4_init_6 : decode cX4_init 6 = .ok (.putfield 7, 3) := dk_181 0 7 (dk_at dksX4_init_0 6 rfl rfl)
theorem dX4_init_9 : decode cX4_init 9 = .ok (.aload_n 0, 1) := dk_42 (dk_at dksX4_init_0 9 rfl rfl)
theorem dX4_init_10 : decode cX4_init 10 = .ok (.iload_n 2, 1) := dk_28 (dk_at dksX4_init_0 10 rfl rfl)
theorem dX4_init_11 : decode cX4_init 11 = .ok (.putfield 13, 3) := dk_181 0 13 (dk_at dksX4_init_0 11 rfl rfl)
theorem dX4_init_14 : decode cX4_init 14 = .ok (.aload_n 0, 1) := dk_42 (dk_at dksX4_init_0 14 rfl rfl)
theorem dX4_init_15 : decode cX4_init 15 = .ok (.iload_n 3, 1) := dk_29 (dk_at dksX4_init_0 15 rfl rfl)
theorem dX4_init_16 : decode cX4_init 16 = .ok (.putfield 16, 3) := dk_181 0 16 (dk_at dksX4_init_0 16 rfl rfl)
theorem dX4_init_19 : decode cX4_init 19 = .ok (.return_, 1) := dk_177 (dk_at dksX4_init_0 19 rfl rfl)
abbrev cX4_commutes : ByteArray := prog_10_method_5_code
def yX4_commutes : MethodName := ⟨RX4, "commutes", "(II)Z"⟩
def dkwX4_commutes_0 : List UInt8 := [42, 180, 0, 7, 42, 180, 0, 13, 27, 28, 184, 0, 28, 172]
abbrev dktX4_commutes_0 : List UInt8 := dkwX4_commutes_0 ++ []
theorem dksX4_commutes_0 : cX4_commutes.data.toList.drop 0 = dktX4_commutes_0 := by decide +kernel
theorem dX4_commutes_0 : decode cX4_commutes 0 = .ok (.aload_n 0, 1) := dk_42 (dk_at dksX4_commutes_0 0 rfl rfl)
theorem dX4_commutes_1 : decode cX4_commutes 1 = .ok (.getfield 7, 3) := dk_180 0 7 (dk_at dksX4_commutes_0 1 rfl rfl)
theorem dX4_commutes_4 : decode cX4_commutes 4 = .ok (.aload_n 0, 1) := dk_42 (dk_at dksX4_commutes_0 4 rfl rfl)
theorem dX4_commutes_5 : decode cX4_commutes 5 = .ok (.getfield 13, 3) := dk_180 0 13 (dk_at dksX4_commutes_0 5 rfl rfl)
theorem dX4_commutes_8 : decode cX4_commutes 8 = .ok (.iload_n 1, 1) := dk_27 (dk_at dksX4_commutes_0 8 rfl rfl)
theorem dX4_commutes_9 : decode cX4_commutes 9 = .ok (.iload_n 2, 1) := dk_28 (dk_at dksX4_commutes_0 9 rfl rfl)
theorem dX4_commutes_10 : decode cX4_commutes 10 = .ok (.invokestatic 28, 3) := dk_184 0 28 (dk_at dksX4_commutes_0 10 rfl rfl)
theorem dX4_commutes_13 : decode cX4_commutes 13 = .ok (.ireturn, 1) := dk_172 (dk_at dksX4_commutes_0 13 rfl rfl)
abbrev cX4_multiply : ByteArray := prog_10_method_9_code
def yX4_multiply : MethodName := ⟨RX4, "multiply", "(LStringTableau$Row;)V"⟩
def dkwX4_multiply_3 : List UInt8 := [177]
abbrev dktX4_multiply_3 : List UInt8 := dkwX4_multiply_3 ++ []
def dkwX4_multiply_2 : List UInt8 := [180, 0, 7, 43, 180, 0, 7, 130, 181, 0, 7, 42, 89, 180, 0, 13, 43, 180, 0, 13, 130, 181, 0, 13]
abbrev dktX4_multiply_2 : List UInt8 := dkwX4_multiply_2 ++ dktX4_multiply_3
def dkwX4_multiply_1 : List UInt8 := [180, 0, 13, 184, 0, 50, 5, 160, 0, 7, 4, 167, 0, 4, 3, 130, 130, 181, 0, 16, 42, 89]
abbrev dktX4_multiply_1 : List UInt8 := dkwX4_multiply_1 ++ dktX4_multiply_2
def dkwX4_multiply_0 : List UInt8 := [42, 89, 180, 0, 16, 43, 180, 0, 16, 42, 180, 0, 7, 42, 180, 0, 13, 43, 180, 0, 7, 43]
abbrev dktX4_multiply_0 : List UInt8 := dkwX4_multiply_0 ++ dktX4_multiply_1
theorem dksX4_multiply_0 : cX4_multiply.data.toList.drop 0 = dktX4_multiply_0 := by decide +kernel
theorem dksX4_multiply_1 : cX4_multiply.data.toList.drop 22 = dktX4_multiply_1 := dk_seg dksX4_multiply_0 22 rfl rfl
theorem dksX4_multiply_2 : cX4_multiply.data.toList.drop 44 = dktX4_multiply_2 := dk_seg dksX4_multiply_1 22 rfl rfl
theorem dksX4_multiply_3 : cX4_multiply.data.toList.drop 68 = dktX4_multiply_3 := dk_seg dksX4_multiply_2 24 rfl rfl
theorem dX4_multiply_0 : decode cX4_multiply 0 = .ok (.aload_n 0, 1) := dk_42 (dk_at dksX4_multiply_0 0 rfl rfl)
theorem dX4_multiply_1 : decode cX4_multiply 1 = .ok (.dup, 1) := dk_89 (dk_at dksX4_multiply_0 1 rfl rfl)
theorem dX4_multiply_2 : decode cX4_multiply 2 = .ok (.getfield 16, 3) := dk_180 0 16 (dk_at dksX4_multiply_0 2 rfl rfl)
theorem dX4_multiply_5 : decode cX4_multiply 5 = .ok (.aload_n 1, 1) := dk_43 (dk_at dksX4_multiply_0 5 rfl rfl)
theorem dX4_multiply_6 : decode cX4_multiply 6 = .ok (.getfield 16, 3) := dk_180 0 16 (dk_at dksX4_multiply_0 6 rfl rfl)
theorem dX4_multiply_9 : decode cX4_multiply 9 = .ok (.aload_n 0, 1) := dk_42 (dk_at dksX4_multiply_0 9 rfl rfl)
theorem dX4_multiply_10 : decode cX4_multiply 10 = .ok (.getfield 7, 3) := dk_180 0 7 (dk_at dksX4_multiply_0 10 rfl rfl)
theorem dX4_multiply_13 : decode cX4_multiply 13 = .ok (.aload_n 0, 1) := dk_42 (dk_at dksX4_multiply_0 13 rfl rfl)
theorem dX4_multiply_14 : decode cX4_multiply 14 = .ok (.getfield 13, 3) := dk_180 0 13 (dk_at dksX4_multiply_0 14 rfl rfl)
theorem dX4_multiply_17 : decode cX4_multiply 17 = .ok (.aload_n 1, 1) := dk_43 (dk_at dksX4_multiply_0 17 rfl rfl)
theorem dX4_multiply_18 : decode cX4_multiply 18 = .ok (.getfield 7, 3) := dk_180 0 7 (dk_at dksX4_multiply_0 18 rfl rfl)
theorem dX4_multiply_21 : decode cX4_multiply 21 = .ok (.aload_n 1, 1) := dk_43 (dk_at dksX4_multiply_0 21 rfl rfl)
theorem dX4_multiply_22 : decode cX4_multiply 22 = .ok (.getfield 13, 3) := dk_180 0 13 (dk_at dksX4_multiply_1 0 rfl rfl)
theorem dX4_multiply_25 : decode cX4_multiply 25 = .ok (.invokestatic 50, 3) := dk_184 0 50 (dk_at dksX4_multiply_1 3 rfl rfl)
theorem dX4_multiply_28 : decode cX4_multiply 28 = .ok (.iconst 2, 1) := dk_5 (dk_at dksX4_multiply_1 6 rfl rfl)
theorem dX4_multiply_29 : decode cX4_multiply 29 = .ok (.if_icmp .ne 7, 3) := dk_160 0 7 (dk_at dksX4_multiply_1 7 rfl rfl)
theorem dX4_multiply_32 : decode cX4_multiply 32 = .ok (.iconst 1, 1) := dk_4 (dk_at dksX4_multiply_1 10 rfl rfl)
theorem dX4_multiply_33 : decode cX4_multiply 33 = .ok (.goto 4, 3) := dk_167 0 4 (dk_at dksX4_multiply_1 11 rfl rfl)
theorem dX4_multiply_36 : decode cX4_multiply 36 = .ok (.iconst 0, 1) := dk_3 (dk_at dksX4_multiply_1 14 rfl rfl)
theorem dX4_multiply_37 : decode cX4_multiply 37 = .ok (.ixor, 1) := dk_130 (dk_at dksX4_multiply_1 15 rfl rfl)
theorem dX4_multiply_38 : decode cX4_multiply 38 = .ok (.ixor, 1) := dk_130 (dk_at dksX4_multiply_1 16 rfl rfl)
theorem dX4_multiply_39 : decode cX4_multiply 39 = .ok (.putfield 16, 3) := dk_181 0 16 (dk_at dksX4_multiply_1 17 rfl rfl)
theorem dX4_multiply_42 : decode cX4_multiply 42 = .ok (.aload_n 0, 1) := dk_42 (dk_at dksX4_multiply_1 20 rfl rfl)
theorem dX4_multiply_43 : decode cX4_multiply 43 = .ok (.dup, 1) := dk_89 (dk_at dksX4_multiply_1 21 rfl rfl)
theorem dX4_multiply_44 : decode cX4_multiply 44 = .ok (.getfield 7, 3) := dk_180 0 7 (dk_at dksX4_multiply_2 0 rfl rfl)
theorem dX4_multiply_47 : decode cX4_multiply 47 = .ok (.aload_n 1, 1) := dk_43 (dk_at dksX4_multiply_2 3 rfl rfl)
theorem dX4_multiply_48 : decode cX4_multiply 48 = .ok (.getfield 7, 3) := dk_180 0 7 (dk_at dksX4_multiply_2 4 rfl rfl)
theorem dX4_multiply_51 : decode cX4_multiply 51 = .ok (.ixor, 1) := dk_130 (dk_at dksX4_multiply_2 7 rfl rfl)
theorem dX4_multiply_52 : decode cX4_multiply 52 = .ok (.putfield 7, 3) := dk_181 0 7 (dk_at dksX4_multiply_2 8 rfl rfl)
theorem dX4_multiply_55 : decode cX4_multiply 55 = .ok (.aload_n 0, 1) := dk_42 (dk_at dksX4_multiply_2 11 rfl rfl)
theorem dX4_multiply_56 : decode cX4_multiply 56 = .ok (.dup, 1) := dk_89 (dk_at dksX4_multiply_2 12 rfl rfl)
theorem dX4_multiply_57 : decode cX4_multiply 57 = .ok (.getfield 13, 3) := dk_180 0 13 (dk_at dksX4_multiply_2 13 rfl rfl)
theorem dX4_multiply_60 : decode cX4_multiply 60 = .ok (.aload_n 1, 1) := dk_43 (dk_at dksX4_multiply_2 16 rfl rfl)
theorem dX4_multiply_61 : decode cX4_multiply 61 = .ok (.getfield 13, 3) := dk_180 0 13 (dk_at dksX4_multiply_2 17 rfl rfl)
theorem dX4_multiply_64 : decode cX4_multiply 64 = .ok (.ixor, 1) := dk_130 (dk_at dksX4_multiply_2 20 rfl rfl)
theorem dX4_multiply_65 : decode cX4_multiply 65 = .ok (.putfield 13, 3) := dk_181 0 13 (dk_at dksX4_multiply_2 21 rfl rfl)
theorem dX4_multiply_68 : decode cX4_multiply 68 = .ok (.return_, 1) := dk_177 (dk_at dksX4_multiply_3 0 rfl rfl)
abbrev cX4_copy : ByteArray := prog_10_method_2_code
def yX4_copy : MethodName := ⟨RX4, "copy", "()LStringTableau$Row;"⟩
def dkwX4_copy_0 : List UInt8 := [187, 0, 8, 89, 42, 180, 0, 7, 42, 180, 0, 13, 42, 180, 0, 16, 183, 0, 20, 176]
abbrev dktX4_copy_0 : List UInt8 := dkwX4_copy_0 ++ []
theorem dksX4_copy_0 : cX4_copy.data.toList.drop 0 = dktX4_copy_0 := by decide +kernel
theorem dX4_copy_0 : decode cX4_copy 0 = .ok (.new 8, 3) := dk_187 0 8 (dk_at dksX4_copy_0 0 rfl rfl)
theorem dX4_copy_3 : decode cX4_copy 3 = .ok (.dup, 1) := dk_89 (dk_at dksX4_copy_0 3 rfl rfl)
theorem dX4_copy_4 : decode cX4_copy 4 = .ok (.aload_n 0, 1) := dk_42 (dk_at dksX4_copy_0 4 rfl rfl)
theorem dX4_copy_5 : decode cX4_copy 5 = .ok (.getfield 7, 3) := dk_180 0 7 (dk_at dksX4_copy_0 5 rfl rfl)
theorem dX4_copy_8 : decode cX4_copy 8 = .ok (.aload_n 0, 1) := dk_42 (dk_at dksX4_copy_0 8 rfl rfl)
theorem dX4_copy_9 : decode cX4_copy 9 = .ok (.getfield 13, 3) := dk_180 0 13 (dk_at dksX4_copy_0 9 rfl rfl)
theorem dX4_copy_12 : decode cX4_copy 12 = .ok (.aload_n 0, 1) := dk_42 (dk_at dksX4_copy_0 12 rfl rfl)
theorem dX4_copy_13 : decode cX4_copy 13 = .ok (.getfield 16, 3) := dk_180 0 16 (dk_at dksX4_copy_0 13 rfl rfl)
theorem dX4_copy_16 : decode cX4_copy 16 = .ok (.invokespecial 20, 3) := dk_183 0 20 (dk_at dksX4_copy_0 16 rfl rfl)
theorem dX4_copy_19 : decode cX4_copy 19 = .ok (.areturn, 1) := dk_176 (dk_at dksX4_copy_0 19 rfl rfl)
abbrev cX4_h : ByteArray := prog_10_method_15_code
def yX4_h : MethodName := ⟨RX4, "h", "(I)V"⟩
def dkwX4_h_2 : List UInt8 := [28, 29, 159, 0, 7, 4, 167, 0, 4, 3, 182, 0, 73, 177]
abbrev dktX4_h_2 : List UInt8 := dkwX4_h_2 ++ []
def dkwX4_h_1 : List UInt8 := [167, 0, 4, 3, 182, 0, 65, 42, 27, 28, 29, 159, 0, 7, 4, 167, 0, 4, 3, 182, 0, 69, 42, 27]
abbrev dktX4_h_1 : List UInt8 := dkwX4_h_1 ++ dktX4_h_2
def dkwX4_h_0 : List UInt8 := [42, 27, 182, 0, 58, 61, 42, 27, 182, 0, 62, 62, 42, 28, 153, 0, 11, 29, 153, 0, 7, 4]
abbrev dktX4_h_0 : List UInt8 := dkwX4_h_0 ++ dktX4_h_1
theorem dksX4_h_0 : cX4_h.data.toList.drop 0 = dktX4_h_0 := by decide +kernel
theorem dksX4_h_1 : cX4_h.data.toList.drop 22 = dktX4_h_1 := dk_seg dksX4_h_0 22 rfl rfl
theorem dksX4_h_2 : cX4_h.data.toList.drop 46 = dktX4_h_2 := dk_seg dksX4_h_1 24 rfl rfl
theorem dX4_h_0 : decode cX4_h 0 = .ok (.aload_n 0, 1) := dk_42 (dk_at dksX4_h_0 0 rfl rfl)
theorem dX4_h_1 : decode cX4_h 1 = .ok (.iload_n 1, 1) := dk_27 (dk_at dksX4_h_0 1 rfl rfl)
theorem dX4_h_2 : decode cX4_h 2 = .ok (.invokevirtual 58, 3) := dk_182 0 58 (dk_at dksX4_h_0 2 rfl rfl)
theorem dX4_h_5 : decode cX4_h 5 = .ok (.istore_n 2, 1) := dk_61 (dk_at dksX4_h_0 5 rfl rfl)
theorem dX4_h_6 : decode cX4_h 6 = .ok (.aload_n 0, 1) := dk_42 (dk_at dksX4_h_0 6 rfl rfl)
theorem dX4_h_7 : decode cX4_h 7 = .ok (.iload_n 1, 1) := dk_27 (dk_at dksX4_h_0 7 rfl rfl)
theorem dX4_h_8 : decode cX4_h 8 = .ok (.invokevirtual 62, 3) := dk_182 0 62 (dk_at dksX4_h_0 8 rfl rfl)
theorem dX4_h_11 : decode cX4_h 11 = .ok (.istore_n 3, 1) := dk_62 (dk_at dksX4_h_0 11 rfl rfl)
theorem dX4_h_12 : decode cX4_h 12 = .ok (.aload_n 0, 1) := dk_42 (dk_at dksX4_h_0 12 rfl rfl)
theorem dX4_h_13 : decode cX4_h 13 = .ok (.iload_n 2, 1) := dk_28 (dk_at dksX4_h_0 13 rfl rfl)
theorem dX4_h_14 : decode cX4_h 14 = .ok (.ifCond .eq 11, 3) := dk_153 0 11 (dk_at dksX4_h_0 14 rfl rfl)
theorem dX4_h_17 : decode cX4_h 17 = .ok (.iload_n 3, 1) := dk_29 (dk_at dksX4_h_0 17 rfl rfl)
theorem dX4_h_18 : decode cX4_h 18 = .ok (.ifCond .eq 7, 3) := dk_153 0 7 (dk_at dksX4_h_0 18 rfl rfl)
theorem dX4_h_21 : decode cX4_h 21 = .ok (.iconst 1, 1) := dk_4 (dk_at dksX4_h_0 21 rfl rfl)
theorem dX4_h_22 : decode cX4_h 22 = .ok (.goto 4, 3) := dk_167 0 4 (dk_at dksX4_h_1 0 rfl rfl)
theorem dX4_h_25 : decode cX4_h 25 = .ok (.iconst 0, 1) := dk_3 (dk_at dksX4_h_1 3 rfl rfl)
theorem dX4_h_26 : decode cX4_h 26 = .ok (.invokevirtual 65, 3) := dk_182 0 65 (dk_at dksX4_h_1 4 rfl rfl)
theorem dX4_h_29 : decode cX4_h 29 = .ok (.aload_n 0, 1) := dk_42 (dk_at dksX4_h_1 7 rfl rfl)
theorem dX4_h_30 : decode cX4_h 30 = .ok (.iload_n 1, 1) := dk_27 (dk_at dksX4_h_1 8 rfl rfl)
theorem dX4_h_31 : decode cX4_h 31 = .ok (.iload_n 2, 1) := dk_28 (dk_at dksX4_h_1 9 rfl rfl)
theorem dX4_h_32 : decode cX4_h 32 = .ok (.iload_n 3, 1) := dk_29 (dk_at dksX4_h_1 10 rfl rfl)
theorem dX4_h_33 : decode cX4_h 33 = .ok (.if_icmp .eq 7, 3) := dk_159 0 7 (dk_at dksX4_h_1 11 rfl rfl)
theorem dX4_h_36 : decode cX4_h 36 = .ok (.iconst 1, 1) := dk_4 (dk_at dksX4_h_1 14 rfl rfl)
theorem dX4_h_37 : decode cX4_h 37 = .ok (.goto 4, 3) := dk_167 0 4 (dk_at dksX4_h_1 15 rfl rfl)
theorem dX4_h_40 : decode cX4_h 40 = .ok (.iconst 0, 1) := dk_3 (dk_at dksX4_h_1 18 rfl rfl)
theorem dX4_h_41 : decode cX4_h 41 = .ok (.invokevirtual 69, 3) := dk_182 0 69 (dk_at dksX4_h_1 19 rfl rfl)
theorem dX4_h_44 : decode cX4_h 44 = .ok (.aload_n 0, 1) := dk_42 (dk_at dksX4_h_1 22 rfl rfl)
theorem dX4_h_45 : decode cX4_h 45 = .ok (.iload_n 1, 1) := dk_27 (dk_at dksX4_h_1 23 rfl rfl)
theorem dX4_h_46 : decode cX4_h 46 = .ok (.iload_n 2, 1) := dk_28 (dk_at dksX4_h_2 0 rfl rfl)
theorem dX4_h_47 : decode cX4_h 47 = .ok (.iload_n 3, 1) := dk_29 (dk_at dksX4_h_2 1 rfl rfl)
theorem dX4_h_48 : decode cX4_h 48 = .ok (.if_icmp .eq 7, 3) := dk_159 0 7 (dk_at dksX4_h_2 2 rfl rfl)
theorem dX4_h_51 : decode cX4_h 51 = .ok (.iconst 1, 1) := dk_4 (dk_at dksX4_h_2 5 rfl rfl)
theorem dX4_h_52 : decode cX4_h 52 = .ok (.goto 4, 3) := dk_167 0 4 (dk_at dksX4_h_2 6 rfl rfl)
theorem dX4_h_55 : decode cX4_h 55 = .ok (.iconst 0, 1) := dk_3 (dk_at dksX4_h_2 9 rfl rfl)
theorem dX4_h_56 : decode cX4_h 56 = .ok (.invokevirtual 73, 3) := dk_182 0 73 (dk_at dksX4_h_2 10 rfl rfl)
theorem dX4_h_59 : decode cX4_h 59 = .ok (.return_, 1) := dk_177 (dk_at dksX4_h_2 13 rfl rfl)
abbrev cX4_hasX : ByteArray := prog_10_method_10_code
def yX4_hasX : MethodName := ⟨RX4, "hasX", "(I)Z"⟩
def dkwX4_hasX_0 : List UInt8 := [42, 180, 0, 7, 27, 184, 0, 54, 172]
abbrev dktX4_hasX_0 : List UInt8 := dkwX4_hasX_0 ++ []
theorem dksX4_hasX_0 : cX4_hasX.data.toList.drop 0 = dktX4_hasX_0 := by decide +kernel
theorem dX4_hasX_0 : decode cX4_hasX 0 = .ok (.aload_n 0, 1) := dk_42 (dk_at dksX4_hasX_0 0 rfl rfl)
theorem dX4_hasX_1 : decode cX4_hasX 1 = .ok (.getfield 7, 3) := dk_180 0 7 (dk_at dksX4_hasX_0 1 rfl rfl)
theorem dX4_hasX_4 : decode cX4_hasX 4 = .ok (.iload_n 1, 1) := dk_27 (dk_at dksX4_hasX_0 4 rfl rfl)
theorem dX4_hasX_5 : decode cX4_hasX 5 = .ok (.invokestatic 54, 3) := dk_184 0 54 (dk_at dksX4_hasX_0 5 rfl rfl)
theorem dX4_hasX_8 : decode cX4_hasX 8 = .ok (.ireturn, 1) := dk_172 (dk_at dksX4_hasX_0 8 rfl rfl)
abbrev cX4_hasZ : ByteArray := prog_10_method_11_code
def yX4_hasZ : MethodName := ⟨RX4, "hasZ", "(I)Z"⟩
def dkwX4_hasZ_0 : List UInt8 := [42, 180, 0, 13, 27, 184, 0, 54, 172]
abbrev dktX4_hasZ_0 : List UInt8 := dkwX4_hasZ_0 ++ []
theorem dksX4_hasZ_0 : cX4_hasZ.data.toList.drop 0 = dktX4_hasZ_0 := by decide +kernel
theorem dX4_hasZ_0 : decode cX4_hasZ 0 = .ok (.aload_n 0, 1) := dk_42 (dk_at dksX4_hasZ_0 0 rfl rfl)
theorem dX4_hasZ_1 : decode cX4_hasZ 1 = .ok (.getfield 13, 3) := dk_180 0 13 (dk_at dksX4_hasZ_0 1 rfl rfl)
theorem dX4_hasZ_4 : decode cX4_hasZ 4 = .ok (.iload_n 1, 1) := dk_27 (dk_at dksX4_hasZ_0 4 rfl rfl)
theorem dX4_hasZ_5 : decode cX4_hasZ 5 = .ok (.invokestatic 54, 3) := dk_184 0 54 (dk_at dksX4_hasZ_0 5 rfl rfl)
theorem dX4_hasZ_8 : decode cX4_hasZ 8 = .ok (.ireturn, 1) := dk_172 (dk_at dksX4_hasZ_0 8 rfl rfl)
abbrev cX4_flipIf : ByteArray := prog_10_method_12_code
def yX4_flipIf : MethodName := ⟨RX4, "flipIf", "(Z)V"⟩
def dkwX4_flipIf_0 : List UInt8 := [42, 89, 180, 0, 16, 27, 130, 181, 0, 16, 177]
abbrev dktX4_flipIf_0 : List UInt8 := dkwX4_flipIf_0 ++ []
theorem dksX4_flipIf_0 : cX4_flipIf.data.toList.drop 0 = dktX4_flipIf_0 := by decide +kernel
theorem dX4_flipIf_0 : decode cX4_flipIf 0 = .ok (.aload_n 0, 1) := dk_42 (dk_at dksX4_flipIf_0 0 rfl rfl)
theorem dX4_flipIf_1 : decode cX4_flipIf 1 = .ok (.dup, 1) := dk_89 (dk_at dksX4_flipIf_0 1 rfl rfl)
theorem dX4_flipIf_2 : decode cX4_flipIf 2 = .ok (.getfield 16, 3) := dk_180 0 16 (dk_at dksX4_flipIf_0 2 rfl rfl)
theorem dX4_flipIf_5 : decode cX4_flipIf 5 = .ok (.iload_n 1, 1) := dk_27 (dk_at dksX4_flipIf_0 5 rfl rfl)
theorem dX4_flipIf_6 : decode cX4_flipIf 6 = .ok (.ixor, 1) := dk_130 (dk_at dksX4_flipIf_0 6 rfl rfl)
theorem dX4_flipIf_7 : decode cX4_flipIf 7 = .ok (.putfield 16, 3) := dk_181 0 16 (dk_at dksX4_flipIf_0 7 rfl rfl)
theorem dX4_flipIf_10 : decode cX4_flipIf 10 = .ok (.return_, 1) := dk_177 (dk_at dksX4_flipIf_0 10 rfl rfl)
abbrev cX4_flipX : ByteArray := prog_10_method_13_code
def yX4_flipX : MethodName := ⟨RX4, "flipX", "(IZ)V"⟩
def dkwX4_flipX_0 : List UInt8 := [28, 153, 0, 15, 42, 89, 180, 0, 7, 4, 27, 120, 130, 181, 0, 7, 177]
abbrev dktX4_flipX_0 : List UInt8 := dkwX4_flipX_0 ++ []
theorem dksX4_flipX_0 : cX4_flipX.data.toList.drop 0 = dktX4_flipX_0 := by decide +kernel
theorem dX4_flipX_0 : decode cX4_flipX 0 = .ok (.iload_n 2, 1) := dk_28 (dk_at dksX4_flipX_0 0 rfl rfl)
theorem dX4_flipX_1 : decode cX4_flipX 1 = .ok (.ifCond .eq 15, 3) := dk_153 0 15 (dk_at dksX4_flipX_0 1 rfl rfl)
theorem dX4_flipX_4 : decode cX4_flipX 4 = .ok (.aload_n 0, 1) := dk_42 (dk_at dksX4_flipX_0 4 rfl rfl)
theorem dX4_flipX_5 : decode cX4_flipX 5 = .ok (.dup, 1) := dk_89 (dk_at dksX4_flipX_0 5 rfl rfl)
theorem dX4_flipX_6 : decode cX4_flipX 6 = .ok (.getfield 7, 3) := dk_180 0 7 (dk_at dksX4_flipX_0 6 rfl rfl)
theorem dX4_flipX_9 : decode cX4_flipX 9 = .ok (.iconst 1, 1) := dk_4 (dk_at dksX4_flipX_0 9 rfl rfl)
theorem dX4_flipX_10 : decode cX4_flipX 10 = .ok (.iload_n 1, 1) := dk_27 (dk_at dksX4_flipX_0 10 rfl rfl)
theorem dX4_flipX_11 : decode cX4_flipX 11 = .ok (.ishl, 1) := dk_120 (dk_at dksX4_flipX_0 11 rfl rfl)
theorem dX4_flipX_12 : decode cX4_flipX 12 = .ok (.ixor, 1) := dk_130 (dk_at dksX4_flipX_0 12 rfl rfl)
theorem dX4_flipX_13 : decode cX4_flipX 13 = .ok (.putfield 7, 3) := dk_181 0 7 (dk_at dksX4_flipX_0 13 rfl rfl)
theorem dX4_flipX_16 : decode cX4_flipX 16 = .ok (.return_, 1) := dk_177 (dk_at dksX4_flipX_0 16 rfl rfl)
abbrev cX4_flipZ : ByteArray := prog_10_method_14_code
def yX4_flipZ : MethodName := ⟨RX4, "flipZ", "(IZ)V"⟩
def dkwX4_flipZ_0 : List UInt8 := [28, 153, 0, 15, 42, 89, 180, 0, 13, 4, 27, 120, 130, 181, 0, 13, 177]
abbrev dktX4_flipZ_0 : List UInt8 := dkwX4_flipZ_0 ++ []
theorem dksX4_flipZ_0 : cX4_flipZ.data.toList.drop 0 = dktX4_flipZ_0 := by decide +kernel
theorem dX4_flipZ_0 : decode cX4_flipZ 0 = .ok (.iload_n 2, 1) := dk_28 (dk_at dksX4_flipZ_0 0 rfl rfl)
theorem dX4_flipZ_1 : decode cX4_flipZ 1 = .ok (.ifCond .eq 15, 3) := dk_153 0 15 (dk_at dksX4_flipZ_0 1 rfl rfl)
theorem dX4_flipZ_4 : decode cX4_flipZ 4 = .ok (.aload_n 0, 1) := dk_42 (dk_at dksX4_flipZ_0 4 rfl rfl)
theorem dX4_flipZ_5 : decode cX4_flipZ 5 = .ok (.dup, 1) := dk_89 (dk_at dksX4_flipZ_0 5 rfl rfl)
theorem dX4_flipZ_6 : decode cX4_flipZ 6 = .ok (.getfield 13, 3) := dk_180 0 13 (dk_at dksX4_flipZ_0 6 rfl rfl)
theorem dX4_flipZ_9 : decode cX4_flipZ 9 = .ok (.iconst 1, 1) := dk_4 (dk_at dksX4_flipZ_0 9 rfl rfl)
theorem dX4_flipZ_10 : decode cX4_flipZ 10 = .ok (.iload_n 1, 1) := dk_27 (dk_at dksX4_flipZ_0 10 rfl rfl)
theorem dX4_flipZ_11 : decode cX4_flipZ 11 = .ok (.ishl, 1) := dk_120 (dk_at dksX4_flipZ_0 11 rfl rfl)
theorem dX4_flipZ_12 : decode cX4_flipZ 12 = .ok (.ixor, 1) := dk_130 (dk_at dksX4_flipZ_0 12 rfl rfl)
theorem dX4_flipZ_13 : decode cX4_flipZ 13 = .ok (.putfield 13, 3) := dk_181 0 13 (dk_at dksX4_flipZ_0 13 rfl rfl)
theorem dX4_flipZ_16 : decode cX4_flipZ 16 = .ok (.return_, 1) := dk_177 (dk_at dksX4_flipZ_0 16 rfl rfl)
abbrev cX4_turn : ByteArray := prog_10_method_16_code
def yX4_turn : MethodName := ⟨RX4, "turn", "(IZ)V"⟩
def dkwX4_turn_1 : List UInt8 := [182, 0, 65, 42, 27, 42, 27, 182, 0, 58, 182, 0, 73, 177]
abbrev dktX4_turn_1 : List UInt8 := dkwX4_turn_1 ++ []
def dkwX4_turn_0 : List UInt8 := [42, 42, 27, 182, 0, 58, 153, 0, 16, 42, 27, 182, 0, 62, 28, 159, 0, 7, 4, 167, 0, 4, 3]
abbrev dktX4_turn_0 : List UInt8 := dkwX4_turn_0 ++ dktX4_turn_1
theorem dksX4_turn_0 : cX4_turn.data.toList.drop 0 = dktX4_turn_0 := by decide +kernel
theorem dksX4_turn_1 : cX4_turn.data.toList.drop 23 = dktX4_turn_1 := dk_seg dksX4_turn_0 23 rfl rfl
theorem dX4_turn_0 : decode cX4_turn 0 = .ok (.aload_n 0, 1) := dk_42 (dk_at dksX4_turn_0 0 rfl rfl)
theorem dX4_turn_1 : decode cX4_turn 1 = .ok (.aload_n 0, 1) := dk_42 (dk_at dksX4_turn_0 1 rfl rfl)
theorem dX4_turn_2 : decode cX4_turn 2 = .ok (.iload_n 1, 1) := dk_27 (dk_at dksX4_turn_0 2 rfl rfl)
theorem dX4_turn_3 : decode cX4_turn 3 = .ok (.invokevirtual 58, 3) := dk_182 0 58 (dk_at dksX4_turn_0 3 rfl rfl)
theorem dX4_turn_6 : decode cX4_turn 6 = .ok (.ifCond .eq 16, 3) := dk_153 0 16 (dk_at dksX4_turn_0 6 rfl rfl)
theorem dX4_turn_9 : decode cX4_turn 9 = .ok (.aload_n 0, 1) := dk_42 (dk_at dksX4_turn_0 9 rfl rfl)
theorem dX4_turn_10 : decode cX4_turn 10 = .ok (.iload_n 1, 1) := dk_27 (dk_at dksX4_turn_0 10 rfl rfl)
theorem dX4_turn_11 : decode cX4_turn 11 = .ok (.invokevirtual 62, 3) := dk_182 0 62 (dk_at dksX4_turn_0 11 rfl rfl)
theorem dX4_turn_14 : decode cX4_turn 14 = .ok (.iload_n 2, 1) := dk_28 (dk_at dksX4_turn_0 14 rfl rfl)
theorem dX4_turn_15 : decode cX4_turn 15 = .ok (.if_icmp .eq 7, 3) := dk_159 0 7 (dk_at dksX4_turn_0 15 rfl rfl)
theorem dX4_turn_18 : decode cX4_turn 18 = .ok (.iconst 1, 1) := dk_4 (dk_at dksX4_turn_0 18 rfl rfl)
theorem dX4_turn_19 : decode cX4_turn 19 = .ok (.goto 4, 3) := dk_167 0 4 (dk_at dksX4_turn_0 19 rfl rfl)
theorem dX4_turn_22 : decode cX4_turn 22 = .ok (.iconst 0, 1) := dk_3 (dk_at dksX4_turn_0 22 rfl rfl)
theorem dX4_turn_23 : decode cX4_turn 23 = .ok (.invokevirtual 65, 3) := dk_182 0 65 (dk_at dksX4_turn_1 0 rfl rfl)
theorem dX4_turn_26 : decode cX4_turn 26 = .ok (.aload_n 0, 1) := dk_42 (dk_at dksX4_turn_1 3 rfl rfl)
theorem dX4_turn_27 : decode cX4_turn 27 = .ok (.iload_n 1, 1) := dk_27 (dk_at dksX4_turn_1 4 rfl rfl)
theorem dX4_turn_28 : decode cX4_turn 28 = .ok (.aload_n 0, 1) := dk_42 (dk_at dksX4_turn_1 5 rfl rfl)
theorem dX4_turn_29 : decode cX4_turn 29 = .ok (.iload_n 1, 1) := dk_27 (dk_at dksX4_turn_1 6 rfl rfl)
theorem dX4_turn_30 : decode cX4_turn 30 = .ok (.invokevirtual 58, 3) := dk_182 0 58 (dk_at dksX4_turn_1 7 rfl rfl)
theorem dX4_turn_33 : decode cX4_turn 33 = .ok (.invokevirtual 73, 3) := dk_182 0 73 (dk_at dksX4_turn_1 10 rfl rfl)
theorem dX4_turn_36 : decode cX4_turn 36 = .ok (.return_, 1) := dk_177 (dk_at dksX4_turn_1 13 rfl rfl)
abbrev cX4_cx : ByteArray := prog_10_method_17_code
def yX4_cx : MethodName := ⟨RX4, "cx", "(II)V"⟩
def dkwX4_cx_2 : List UInt8 := [42, 27, 42, 28, 182, 0, 62, 182, 0, 73, 177]
abbrev dktX4_cx_2 : List UInt8 := dkwX4_cx_2 ++ []
def dkwX4_cx_1 : List UInt8 := [182, 0, 62, 160, 0, 7, 4, 167, 0, 4, 3, 182, 0, 65, 42, 28, 42, 27, 182, 0, 58, 182, 0, 69]
abbrev dktX4_cx_1 : List UInt8 := dkwX4_cx_1 ++ dktX4_cx_2
def dkwX4_cx_0 : List UInt8 := [42, 42, 27, 182, 0, 58, 153, 0, 28, 42, 28, 182, 0, 62, 153, 0, 20, 42, 28, 182, 0, 58, 42, 27]
abbrev dktX4_cx_0 : List UInt8 := dkwX4_cx_0 ++ dktX4_cx_1
theorem dksX4_cx_0 : cX4_cx.data.toList.drop 0 = dktX4_cx_0 := by decide +kernel
theorem dksX4_cx_1 : cX4_cx.data.toList.drop 24 = dktX4_cx_1 := dk_seg dksX4_cx_0 24 rfl rfl
theorem dksX4_cx_2 : cX4_cx.data.toList.drop 48 = dktX4_cx_2 := dk_seg dksX4_cx_1 24 rfl rfl
theorem dX4_cx_0 : decode cX4_cx 0 = .ok (.aload_n 0, 1) := dk_42 (dk_at dksX4_cx_0 0 rfl rfl)
theorem dX4_cx_1 : decode cX4_cx 1 = .ok (.aload_n 0, 1) := dk_42 (dk_at dksX4_cx_0 1 rfl rfl)
theorem dX4_cx_2 : decode cX4_cx 2 = .ok (.iload_n 1, 1) := dk_27 (dk_at dksX4_cx_0 2 rfl rfl)
theorem dX4_cx_3 : decode cX4_cx 3 = .ok (.invokevirtual 58, 3) := dk_182 0 58 (dk_at dksX4_cx_0 3 rfl rfl)
theorem dX4_cx_6 : decode cX4_cx 6 = .ok (.ifCond .eq 28, 3) := dk_153 0 28 (dk_at dksX4_cx_0 6 rfl rfl)
theorem dX4_cx_9 : decode cX4_cx 9 = .ok (.aload_n 0, 1) := dk_42 (dk_at dksX4_cx_0 9 rfl rfl)
theorem dX4_cx_10 : decode cX4_cx 10 = .ok (.iload_n 2, 1) := dk_28 (dk_at dksX4_cx_0 10 rfl rfl)
theorem dX4_cx_11 : decode cX4_cx 11 = .ok (.invokevirtual 62, 3) := dk_182 0 62 (dk_at dksX4_cx_0 11 rfl rfl)
theorem dX4_cx_14 : decode cX4_cx 14 = .ok (.ifCond .eq 20, 3) := dk_153 0 20 (dk_at dksX4_cx_0 14 rfl rfl)
theorem dX4_cx_17 : decode cX4_cx 17 = .ok (.aload_n 0, 1) := dk_42 (dk_at dksX4_cx_0 17 rfl rfl)
theorem dX4_cx_18 : decode cX4_cx 18 = .ok (.iload_n 2, 1) := dk_28 (dk_at dksX4_cx_0 18 rfl rfl)
theorem dX4_cx_19 : decode cX4_cx 19 = .ok (.invokevirtual 58, 3) := dk_182 0 58 (dk_at dksX4_cx_0 19 rfl rfl)
theorem dX4_cx_22 : decode cX4_cx 22 = .ok (.aload_n 0, 1) := dk_42 (dk_at dksX4_cx_0 22 rfl rfl)
theorem dX4_cx_23 : decode cX4_cx 23 = .ok (.iload_n 1, 1) := dk_27 (dk_at dksX4_cx_0 23 rfl rfl)
theorem dX4_cx_24 : decode cX4_cx 24 = .ok (.invokevirtual 62, 3) := dk_182 0 62 (dk_at dksX4_cx_1 0 rfl rfl)
theorem dX4_cx_27 : decode cX4_cx 27 = .ok (.if_icmp .ne 7, 3) := dk_160 0 7 (dk_at dksX4_cx_1 3 rfl rfl)
theorem dX4_cx_30 : decode cX4_cx 30 = .ok (.iconst 1, 1) := dk_4 (dk_at dksX4_cx_1 6 rfl rfl)
theorem dX4_cx_31 : decode cX4_cx 31 = .ok (.goto 4, 3) := dk_167 0 4 (dk_at dksX4_cx_1 7 rfl rfl)
theorem dX4_cx_34 : decode cX4_cx 34 = .ok (.iconst 0, 1) := dk_3 (dk_at dksX4_cx_1 10 rfl rfl)
theorem dX4_cx_35 : decode cX4_cx 35 = .ok (.invokevirtual 65, 3) := dk_182 0 65 (dk_at dksX4_cx_1 11 rfl rfl)
theorem dX4_cx_38 : decode cX4_cx 38 = .ok (.aload_n 0, 1) := dk_42 (dk_at dksX4_cx_1 14 rfl rfl)
theorem dX4_cx_39 : decode cX4_cx 39 = .ok (.iload_n 2, 1) := dk_28 (dk_at dksX4_cx_1 15 rfl rfl)
theorem dX4_cx_40 : decode cX4_cx 40 = .ok (.aload_n 0, 1) := dk_42 (dk_at dksX4_cx_1 16 rfl rfl)
theorem dX4_cx_41 : decode cX4_cx 41 = .ok (.iload_n 1, 1) := dk_27 (dk_at dksX4_cx_1 17 rfl rfl)
theorem dX4_cx_42 : decode cX4_cx 42 = .ok (.invokevirtual 58, 3) := dk_182 0 58 (dk_at dksX4_cx_1 18 rfl rfl)
theorem dX4_cx_45 : decode cX4_cx 45 = .ok (.invokevirtual 69, 3) := dk_182 0 69 (dk_at dksX4_cx_1 21 rfl rfl)
theorem dX4_cx_48 : decode cX4_cx 48 = .ok (.aload_n 0, 1) := dk_42 (dk_at dksX4_cx_2 0 rfl rfl)
theorem dX4_cx_49 : decode cX4_cx 49 = .ok (.iload_n 1, 1) := dk_27 (dk_at dksX4_cx_2 1 rfl rfl)
theorem dX4_cx_50 : decode cX4_cx 50 = .ok (.aload_n 0, 1) := dk_42 (dk_at dksX4_cx_2 2 rfl rfl)
theorem dX4_cx_51 : decode cX4_cx 51 = .ok (.iload_n 2, 1) := dk_28 (dk_at dksX4_cx_2 3 rfl rfl)
theorem dX4_cx_52 : decode cX4_cx 52 = .ok (.invokevirtual 62, 3) := dk_182 0 62 (dk_at dksX4_cx_2 4 rfl rfl)
theorem dX4_cx_55 : decode cX4_cx 55 = .ok (.invokevirtual 73, 3) := dk_182 0 73 (dk_at dksX4_cx_2 7 rfl rfl)
theorem dX4_cx_58 : decode cX4_cx 58 = .ok (.return_, 1) := dk_177 (dk_at dksX4_cx_2 10 rfl rfl)
abbrev cX4_cz : ByteArray := prog_10_method_18_code
def yX4_cz : MethodName := ⟨RX4, "cz", "(II)V"⟩
def dkwX4_cz_2 : List UInt8 := [42, 28, 42, 27, 182, 0, 58, 182, 0, 73, 177]
abbrev dktX4_cz_2 : List UInt8 := dkwX4_cz_2 ++ []
def dkwX4_cz_1 : List UInt8 := [182, 0, 62, 159, 0, 7, 4, 167, 0, 4, 3, 182, 0, 65, 42, 27, 42, 28, 182, 0, 58, 182, 0, 73]
abbrev dktX4_cz_1 : List UInt8 := dkwX4_cz_1 ++ dktX4_cz_2
def dkwX4_cz_0 : List UInt8 := [42, 42, 27, 182, 0, 58, 153, 0, 28, 42, 28, 182, 0, 58, 153, 0, 20, 42, 27, 182, 0, 62, 42, 28]
abbrev dktX4_cz_0 : List UInt8 := dkwX4_cz_0 ++ dktX4_cz_1
theorem dksX4_cz_0 : cX4_cz.data.toList.drop 0 = dktX4_cz_0 := by decide +kernel
theorem dksX4_cz_1 : cX4_cz.data.toList.drop 24 = dktX4_cz_1 := dk_seg dksX4_cz_0 24 rfl rfl
theorem dksX4_cz_2 : cX4_cz.data.toList.drop 48 = dktX4_cz_2 := dk_seg dksX4_cz_1 24 rfl rfl
theorem dX4_cz_0 : decode cX4_cz 0 = .ok (.aload_n 0, 1) := dk_42 (dk_at dksX4_cz_0 0 rfl rfl)
theorem dX4_cz_1 : decode cX4_cz 1 = .ok (.aload_n 0, 1) := dk_42 (dk_at dksX4_cz_0 1 rfl rfl)
theorem dX4_cz_2 : decode cX4_cz 2 = .ok (.iload_n 1, 1) := dk_27 (dk_at dksX4_cz_0 2 rfl rfl)
theorem dX4_cz_3 : decode cX4_cz 3 = .ok (.invokevirtual 58, 3) := dk_182 0 58 (dk_at dksX4_cz_0 3 rfl rfl)
theorem dX4_cz_6 : decode cX4_cz 6 = .ok (.ifCond .eq 28, 3) := dk_153 0 28 (dk_at dksX4_cz_0 6 rfl rfl)
theorem dX4_cz_9 : decode cX4_cz 9 = .ok (.aload_n 0, 1) := dk_42 (dk_at dksX4_cz_0 9 rfl rfl)
theorem dX4_cz_10 : decode cX4_cz 10 = .ok (.iload_n 2, 1) := dk_28 (dk_at dksX4_cz_0 10 rfl rfl)
theorem dX4_cz_11 : decode cX4_cz 11 = .ok (.invokevirtual 58, 3) := dk_182 0 58 (dk_at dksX4_cz_0 11 rfl rfl)
theorem dX4_cz_14 : decode cX4_cz 14 = .ok (.ifCond .eq 20, 3) := dk_153 0 20 (dk_at dksX4_cz_0 14 rfl rfl)
theorem dX4_cz_17 : decode cX4_cz 17 = .ok (.aload_n 0, 1) := dk_42 (dk_at dksX4_cz_0 17 rfl rfl)
theorem dX4_cz_18 : decode cX4_cz 18 = .ok (.iload_n 1, 1) := dk_27 (dk_at dksX4_cz_0 18 rfl rfl)
theorem dX4_cz_19 : decode cX4_cz 19 = .ok (.invokevirtual 62, 3) := dk_182 0 62 (dk_at dksX4_cz_0 19 rfl rfl)
theorem dX4_cz_22 : decode cX4_cz 22 = .ok (.aload_n 0, 1) := dk_42 (dk_at dksX4_cz_0 22 rfl rfl)
theorem dX4_cz_23 : decode cX4_cz 23 = .ok (.iload_n 2, 1) := dk_28 (dk_at dksX4_cz_0 23 rfl rfl)
theorem dX4_cz_24 : decode cX4_cz 24 = .ok (.invokevirtual 62, 3) := dk_182 0 62 (dk_at dksX4_cz_1 0 rfl rfl)
theorem dX4_cz_27 : decode cX4_cz 27 = .ok (.if_icmp .eq 7, 3) := dk_159 0 7 (dk_at dksX4_cz_1 3 rfl rfl)
theorem dX4_cz_30 : decode cX4_cz 30 = .ok (.iconst 1, 1) := dk_4 (dk_at dksX4_cz_1 6 rfl rfl)
theorem dX4_cz_31 : decode cX4_cz 31 = .ok (.goto 4, 3) := dk_167 0 4 (dk_at dksX4_cz_1 7 rfl rfl)
theorem dX4_cz_34 : decode cX4_cz 34 = .ok (.iconst 0, 1) := dk_3 (dk_at dksX4_cz_1 10 rfl rfl)
theorem dX4_cz_35 : decode cX4_cz 35 = .ok (.invokevirtual 65, 3) := dk_182 0 65 (dk_at dksX4_cz_1 11 rfl rfl)
theorem dX4_cz_38 : decode cX4_cz 38 = .ok (.aload_n 0, 1) := dk_42 (dk_at dksX4_cz_1 14 rfl rfl)
theorem dX4_cz_39 : decode cX4_cz 39 = .ok (.iload_n 1, 1) := dk_27 (dk_at dksX4_cz_1 15 rfl rfl)
theorem dX4_cz_40 : decode cX4_cz 40 = .ok (.aload_n 0, 1) := dk_42 (dk_at dksX4_cz_1 16 rfl rfl)
theorem dX4_cz_41 : decode cX4_cz 41 = .ok (.iload_n 2, 1) := dk_28 (dk_at dksX4_cz_1 17 rfl rfl)
theorem dX4_cz_42 : decode cX4_cz 42 = .ok (.invokevirtual 58, 3) := dk_182 0 58 (dk_at dksX4_cz_1 18 rfl rfl)
theorem dX4_cz_45 : decode cX4_cz 45 = .ok (.invokevirtual 73, 3) := dk_182 0 73 (dk_at dksX4_cz_1 21 rfl rfl)
theorem dX4_cz_48 : decode cX4_cz 48 = .ok (.aload_n 0, 1) := dk_42 (dk_at dksX4_cz_2 0 rfl rfl)
theorem dX4_cz_49 : decode cX4_cz 49 = .ok (.iload_n 2, 1) := dk_28 (dk_at dksX4_cz_2 1 rfl rfl)
theorem dX4_cz_50 : decode cX4_cz 50 = .ok (.aload_n 0, 1) := dk_42 (dk_at dksX4_cz_2 2 rfl rfl)
theorem dX4_cz_51 : decode cX4_cz 51 = .ok (.iload_n 1, 1) := dk_27 (dk_at dksX4_cz_2 3 rfl rfl)
theorem dX4_cz_52 : decode cX4_cz 52 = .ok (.invokevirtual 58, 3) := dk_182 0 58 (dk_at dksX4_cz_2 4 rfl rfl)
theorem dX4_cz_55 : decode cX4_cz 55 = .ok (.invokevirtual 73, 3) := dk_182 0 73 (dk_at dksX4_cz_2 7 rfl rfl)
theorem dX4_cz_58 : decode cX4_cz 58 = .ok (.return_, 1) := dk_177 (dk_at dksX4_cz_2 10 rfl rfl)
abbrev cX4_swap : ByteArray := prog_10_method_19_code
def yX4_swap : MethodName := ⟨RX4, "swap", "(II)V"⟩
def dkwX4_swap_2 : List UInt8 := [182, 0, 69, 42, 27, 21, 4, 182, 0, 73, 42, 28, 21, 4, 182, 0, 73, 177]
abbrev dktX4_swap_2 : List UInt8 := dkwX4_swap_2 ++ []
def dkwX4_swap_1 : List UInt8 := [42, 28, 182, 0, 62, 159, 0, 7, 4, 167, 0, 4, 3, 54, 4, 42, 27, 29, 182, 0, 69, 42, 28, 29]
abbrev dktX4_swap_1 : List UInt8 := dkwX4_swap_1 ++ dktX4_swap_2
def dkwX4_swap_0 : List UInt8 := [42, 27, 182, 0, 58, 42, 28, 182, 0, 58, 159, 0, 7, 4, 167, 0, 4, 3, 62, 42, 27, 182, 0, 62]
abbrev dktX4_swap_0 : List UInt8 := dkwX4_swap_0 ++ dktX4_swap_1
theorem dksX4_swap_0 : cX4_swap.data.toList.drop 0 = dktX4_swap_0 := by decide +kernel
theorem dksX4_swap_1 : cX4_swap.data.toList.drop 24 = dktX4_swap_1 := dk_seg dksX4_swap_0 24 rfl rfl
theorem dksX4_swap_2 : cX4_swap.data.toList.drop 48 = dktX4_swap_2 := dk_seg dksX4_swap_1 24 rfl rfl
theorem dX4_swap_0 : decode cX4_swap 0 = .ok (.aload_n 0, 1) := dk_42 (dk_at dksX4_swap_0 0 rfl rfl)
theorem dX4_swap_1 : decode cX4_swap 1 = .ok (.iload_n 1, 1) := dk_27 (dk_at dksX4_swap_0 1 rfl rfl)
theorem dX4_swap_2 : decode cX4_swap 2 = .ok (.invokevirtual 58, 3) := dk_182 0 58 (dk_at dksX4_swap_0 2 rfl rfl)
theorem dX4_swap_5 : decode cX4_swap 5 = .ok (.aload_n 0, 1) := dk_42 (dk_at dksX4_swap_0 5 rfl rfl)
theorem dX4_swap_6 : decode cX4_swap 6 = .ok (.iload_n 2, 1) := dk_28 (dk_at dksX4_swap_0 6 rfl rfl)
theorem dX4_swap_7 : decode cX4_swap 7 = .ok (.invokevirtual 58, 3) := dk_182 0 58 (dk_at dksX4_swap_0 7 rfl rfl)
theorem dX4_swap_10 : decode cX4_swap 10 = .ok (.if_icmp .eq 7, 3) := dk_159 0 7 (dk_at dksX4_swap_0 10 rfl rfl)
theorem dX4_swap_13 : decode cX4_swap 13 = .ok (.iconst 1, 1) := dk_4 (dk_at dksX4_swap_0 13 rfl rfl)
theorem dX4_swap_14 : decode cX4_swap 14 = .ok (.goto 4, 3) := dk_167 0 4 (dk_at dksX4_swap_0 14 rfl rfl)
theorem dX4_swap_17 : decode cX4_swap 17 = .ok (.iconst 0, 1) := dk_3 (dk_at dksX4_swap_0 17 rfl rfl)
theorem dX4_swap_18 : decode cX4_swap 18 = .ok (.istore_n 3, 1) := dk_62 (dk_at dksX4_swap_0 18 rfl rfl)
theorem dX4_swap_19 : decode cX4_swap 19 = .ok (.aload_n 0, 1) := dk_42 (dk_at dksX4_swap_0 19 rfl rfl)
theorem dX4_swap_20 : decode cX4_swap 20 = .ok (.iload_n 1, 1) := dk_27 (dk_at dksX4_swap_0 20 rfl rfl)
theorem dX4_swap_21 : decode cX4_swap 21 = .ok (.invokevirtual 62, 3) := dk_182 0 62 (dk_at dksX4_swap_0 21 rfl rfl)
theorem dX4_swap_24 : decode cX4_swap 24 = .ok (.aload_n 0, 1) := dk_42 (dk_at dksX4_swap_1 0 rfl rfl)
theorem dX4_swap_25 : decode cX4_swap 25 = .ok (.iload_n 2, 1) := dk_28 (dk_at dksX4_swap_1 1 rfl rfl)
theorem dX4_swap_26 : decode cX4_swap 26 = .ok (.invokevirtual 62, 3) := dk_182 0 62 (dk_at dksX4_swap_1 2 rfl rfl)
theorem dX4_swap_29 : decode cX4_swap 29 = .ok (.if_icmp .eq 7, 3) := dk_159 0 7 (dk_at dksX4_swap_1 5 rfl rfl)
theorem dX4_swap_32 : decode cX4_swap 32 = .ok (.iconst 1, 1) := dk_4 (dk_at dksX4_swap_1 8 rfl rfl)
theorem dX4_swap_33 : decode cX4_swap 33 = .ok (.goto 4, 3) := dk_167 0 4 (dk_at dksX4_swap_1 9 rfl rfl)
theorem dX4_swap_36 : decode cX4_swap 36 = .ok (.iconst 0, 1) := dk_3 (dk_at dksX4_swap_1 12 rfl rfl)
theorem dX4_swap_37 : decode cX4_swap 37 = .ok (.istore 4, 2) := dk_54 4 (dk_at dksX4_swap_1 13 rfl rfl)
theorem dX4_swap_39 : decode cX4_swap 39 = .ok (.aload_n 0, 1) := dk_42 (dk_at dksX4_swap_1 15 rfl rfl)
theorem dX4_swap_40 : decode cX4_swap 40 = .ok (.iload_n 1, 1) := dk_27 (dk_at dksX4_swap_1 16 rfl rfl)
theorem dX4_swap_41 : decode cX4_swap 41 = .ok (.iload_n 3, 1) := dk_29 (dk_at dksX4_swap_1 17 rfl rfl)
theorem dX4_swap_42 : decode cX4_swap 42 = .ok (.invokevirtual 69, 3) := dk_182 0 69 (dk_at dksX4_swap_1 18 rfl rfl)
theorem dX4_swap_45 : decode cX4_swap 45 = .ok (.aload_n 0, 1) := dk_42 (dk_at dksX4_swap_1 21 rfl rfl)
theorem dX4_swap_46 : decode cX4_swap 46 = .ok (.iload_n 2, 1) := dk_28 (dk_at dksX4_swap_1 22 rfl rfl)
theorem dX4_swap_47 : decode cX4_swap 47 = .ok (.iload_n 3, 1) := dk_29 (dk_at dksX4_swap_1 23 rfl rfl)
theorem dX4_swap_48 : decode cX4_swap 48 = .ok (.invokevirtual 69, 3) := dk_182 0 69 (dk_at dksX4_swap_2 0 rfl rfl)
theorem dX4_swap_51 : decode cX4_swap 51 = .ok (.aload_n 0, 1) := dk_42 (dk_at dksX4_swap_2 3 rfl rfl)
theorem dX4_swap_52 : decode cX4_swap 52 = .ok (.iload_n 1, 1) := dk_27 (dk_at dksX4_swap_2 4 rfl rfl)
theorem dX4_swap_53 : decode cX4_swap 53 = .ok (.iload 4, 2) := dk_21 4 (dk_at dksX4_swap_2 5 rfl rfl)
theorem dX4_swap_55 : decode cX4_swap 55 = .ok (.invokevirtual 73, 3) := dk_182 0 73 (dk_at dksX4_swap_2 7 rfl rfl)
theorem dX4_swap_58 : decode cX4_swap 58 = .ok (.aload_n 0, 1) := dk_42 (dk_at dksX4_swap_2 10 rfl rfl)
theorem dX4_swap_59 : decode cX4_swap 59 = .ok (.iload_n 2, 1) := dk_28 (dk_at dksX4_swap_2 11 rfl rfl)
theorem dX4_swap_60 : decode cX4_swap 60 = .ok (.iload 4, 2) := dk_21 4 (dk_at dksX4_swap_2 12 rfl rfl)
theorem dX4_swap_62 : decode cX4_swap 62 = .ok (.invokevirtual 73, 3) := dk_182 0 73 (dk_at dksX4_swap_2 14 rfl rfl)
theorem dX4_swap_65 : decode cX4_swap 65 = .ok (.return_, 1) := dk_177 (dk_at dksX4_swap_2 17 rfl rfl)
abbrev cX4_isLike : ByteArray := prog_10_method_4_code
def yX4_isLike : MethodName := ⟨RX4, "isLike", "(LStringTableau$Row;)Z"⟩
def dkwX4_isLike_1 : List UInt8 := [180, 0, 16, 43, 180, 0, 16, 160, 0, 7, 4, 167, 0, 4, 3, 172]
abbrev dktX4_isLike_1 : List UInt8 := dkwX4_isLike_1 ++ []
def dkwX4_isLike_0 : List UInt8 := [42, 180, 0, 7, 43, 180, 0, 7, 160, 0, 29, 42, 180, 0, 13, 43, 180, 0, 13, 160, 0, 18, 42]
abbrev dktX4_isLike_0 : List UInt8 := dkwX4_isLike_0 ++ dktX4_isLike_1
theorem dksX4_isLike_0 : cX4_isLike.data.toList.drop 0 = dktX4_isLike_0 := by decide +kernel
theorem dksX4_isLike_1 : cX4_isLike.data.toList.drop 23 = dktX4_isLike_1 := dk_seg dksX4_isLike_0 23 rfl rfl
theorem dX4_isLike_0 : decode cX4_isLike 0 = .ok (.aload_n 0, 1) := dk_42 (dk_at dksX4_isLike_0 0 rfl rfl)
theorem dX4_isLike_1 : decode cX4_isLike 1 = .ok (.getfield 7, 3) := dk_180 0 7 (dk_at dksX4_isLike_0 1 rfl rfl)
theorem dX4_isLike_4 : decode cX4_isLike 4 = .ok (.aload_n 1, 1) := dk_43 (dk_at dksX4_isLike_0 4 rfl rfl)
theorem dX4_isLike_5 : decode cX4_isLike 5 = .ok (.getfield 7, 3) := dk_180 0 7 (dk_at dksX4_isLike_0 5 rfl rfl)
theorem dX4_isLike_8 : decode cX4_isLike 8 = .ok (.if_icmp .ne 29, 3) := dk_160 0 29 (dk_at dksX4_isLike_0 8 rfl rfl)
theorem dX4_isLike_11 : decode cX4_isLike 11 = .ok (.aload_n 0, 1) := dk_42 (dk_at dksX4_isLike_0 11 rfl rfl)
theorem dX4_isLike_12 : decode cX4_isLike 12 = .ok (.getfield 13, 3) := dk_180 0 13 (dk_at dksX4_isLike_0 12 rfl rfl)
theorem dX4_isLike_15 : decode cX4_isLike 15 = .ok (.aload_n 1, 1) := dk_43 (dk_at dksX4_isLike_0 15 rfl rfl)
theorem dX4_isLike_16 : decode cX4_isLike 16 = .ok (.getfield 13, 3) := dk_180 0 13 (dk_at dksX4_isLike_0 16 rfl rfl)
theorem dX4_isLike_19 : decode cX4_isLike 19 = .ok (.if_icmp .ne 18, 3) := dk_160 0 18 (dk_at dksX4_isLike_0 19 rfl rfl)
theorem dX4_isLike_22 : decode cX4_isLike 22 = .ok (.aload_n 0, 1) := dk_42 (dk_at dksX4_isLike_0 22 rfl rfl)
theorem dX4_isLike_23 : decode cX4_isLike 23 = .ok (.getfield 16, 3) := dk_180 0 16 (dk_at dksX4_isLike_1 0 rfl rfl)
theorem dX4_isLike_26 : decode cX4_isLike 26 = .ok (.aload_n 1, 1) := dk_43 (dk_at dksX4_isLike_1 3 rfl rfl)
theorem dX4_isLike_27 : decode cX4_isLike 27 = .ok (.getfield 16, 3) := dk_180 0 16 (dk_at dksX4_isLike_1 4 rfl rfl)
theorem dX4_isLike_30 : decode cX4_isLike 30 = .ok (.if_icmp .ne 7, 3) := dk_160 0 7 (dk_at dksX4_isLike_1 7 rfl rfl)
theorem dX4_isLike_33 : decode cX4_isLike 33 = .ok (.iconst 1, 1) := dk_4 (dk_at dksX4_isLike_1 10 rfl rfl)
theorem dX4_isLike_34 : decode cX4_isLike 34 = .ok (.goto 4, 3) := dk_167 0 4 (dk_at dksX4_isLike_1 11 rfl rfl)
theorem dX4_isLike_37 : decode cX4_isLike 37 = .ok (.iconst 0, 1) := dk_3 (dk_at dksX4_isLike_1 14 rfl rfl)
theorem dX4_isLike_38 : decode cX4_isLike 38 = .ok (.ireturn, 1) := dk_172 (dk_at dksX4_isLike_1 15 rfl rfl)
abbrev cX4_weight : ByteArray := prog_10_method_6_code
def yX4_weight : MethodName := ⟨RX4, "weight", "()I"⟩
def dkwX4_weight_0 : List UInt8 := [42, 180, 0, 7, 42, 180, 0, 13, 128, 184, 0, 34, 172]
abbrev dktX4_weight_0 : List UInt8 := dkwX4_weight_0 ++ []
theorem dksX4_weight_0 : cX4_weight.data.toList.drop 0 = dktX4_weight_0 := by decide +kernel
theorem dX4_weight_0 : decode cX4_weight 0 = .ok (.aload_n 0, 1) := dk_42 (dk_at dksX4_weight_0 0 rfl rfl)
theorem dX4_weight_1 : decode cX4_weight 1 = .ok (.getfield 7, 3) := dk_180 0 7 (dk_at dksX4_weight_0 1 rfl rfl)
theorem dX4_weight_4 : decode cX4_weight 4 = .ok (.aload_n 0, 1) := dk_42 (dk_at dksX4_weight_0 4 rfl rfl)
theorem dX4_weight_5 : decode cX4_weight 5 = .ok (.getfield 13, 3) := dk_180 0 13 (dk_at dksX4_weight_0 5 rfl rfl)
theorem dX4_weight_8 : decode cX4_weight 8 = .ok (.ior, 1) := dk_128 (dk_at dksX4_weight_0 8 rfl rfl)
theorem dX4_weight_9 : decode cX4_weight 9 = .ok (.invokestatic 34, 3) := dk_184 0 34 (dk_at dksX4_weight_0 9 rfl rfl)
theorem dX4_weight_12 : decode cX4_weight 12 = .ok (.ireturn, 1) := dk_172 (dk_at dksX4_weight_0 12 rfl rfl)
abbrev cX4_write : ByteArray := prog_10_method_20_code
def yX4_write : MethodName := ⟨RX4, "write", "(Ljava/lang/StringBuilder;I)V"⟩
def dkwX4_write_2 : List UInt8 := [87, 132, 3, 1, 167, 255, 226, 43, 16, 10, 182, 0, 76, 87, 177]
abbrev dktX4_write_2 : List UInt8 := dkwX4_write_2 ++ []
def dkwX4_write_1 : List UInt8 := [162, 0, 31, 43, 18, 82, 42, 180, 0, 7, 42, 180, 0, 13, 29, 184, 0, 84, 182, 0, 88, 182, 0, 76]
abbrev dktX4_write_1 : List UInt8 := dkwX4_write_1 ++ dktX4_write_2
def dkwX4_write_0 : List UInt8 := [43, 42, 180, 0, 16, 153, 0, 8, 16, 45, 167, 0, 5, 16, 43, 182, 0, 76, 87, 3, 62, 29, 28]
abbrev dktX4_write_0 : List UInt8 := dkwX4_write_0 ++ dktX4_write_1
theorem dksX4_write_0 : cX4_write.data.toList.drop 0 = dktX4_write_0 := by decide +kernel
theorem dksX4_write_1 : cX4_write.data.toList.drop 23 = dktX4_write_1 := dk_seg dksX4_write_0 23 rfl rfl
theorem dksX4_write_2 : cX4_write.data.toList.drop 47 = dktX4_write_2 := dk_seg dksX4_write_1 24 rfl rfl
theorem dX4_write_0 : decode cX4_write 0 = .ok (.aload_n 1, 1) := dk_43 (dk_at dksX4_write_0 0 rfl rfl)
theorem dX4_write_1 : decode cX4_write 1 = .ok (.aload_n 0, 1) := dk_42 (dk_at dksX4_write_0 1 rfl rfl)
theorem dX4_write_2 : decode cX4_write 2 = .ok (.getfield 16, 3) := dk_180 0 16 (dk_at dksX4_write_0 2 rfl rfl)
theorem dX4_write_5 : decode cX4_write 5 = .ok (.ifCond .eq 8, 3) := dk_153 0 8 (dk_at dksX4_write_0 5 rfl rfl)
theorem dX4_write_8 : decode cX4_write 8 = .ok (.bipush 45, 2) := dk_16 45 (dk_at dksX4_write_0 8 rfl rfl)
theorem dX4_write_10 : decode cX4_write 10 = .ok (.goto 5, 3) := dk_167 0 5 (dk_at dksX4_write_0 10 rfl rfl)
theorem dX4_write_13 : decode cX4_write 13 = .ok (.bipush 43, 2) := dk_16 43 (dk_at dksX4_write_0 13 rfl rfl)
theorem dX4_write_15 : decode cX4_write 15 = .ok (.invokevirtual 76, 3) := dk_182 0 76 (dk_at dksX4_write_0 15 rfl rfl)
theorem dX4_write_18 : decode cX4_write 18 = .ok (.pop, 1) := dk_87 (dk_at dksX4_write_0 18 rfl rfl)
theorem dX4_write_19 : decode cX4_write 19 = .ok (.iconst 0, 1) := dk_3 (dk_at dksX4_write_0 19 rfl rfl)
theorem dX4_write_20 : decode cX4_write 20 = .ok (.istore_n 3, 1) := dk_62 (dk_at dksX4_write_0 20 rfl rfl)
theorem dX4_write_21 : decode cX4_write 21 = .ok (.iload_n 3, 1) := dk_29 (dk_at dksX4_write_0 21 rfl rfl)
theorem dX4_write_22 : decode cX4_write 22 = .ok (.iload_n 2, 1) := dk_28 (dk_at dksX4_write_0 22 rfl rfl)
theorem dX4_write_23 : decode cX4_write 23 = .ok (.if_icmp .ge 31, 3) := dk_162 0 31 (dk_at dksX4_write_1 0 rfl rfl)
theorem dX4_write_26 : decode cX4_write 26 = .ok (.aload_n 1, 1) := dk_43 (dk_at dksX4_write_1 3 rfl rfl)
theorem dX4_write_27 : decode cX4_write 27 = .ok (.ldc 82, 2) := dk_18 82 (dk_at dksX4_write_1 4 rfl rfl)
theorem dX4_write_29 : decode cX4_write 29 = .ok (.aload_n 0, 1) := dk_42 (dk_at dksX4_write_1 6 rfl rfl)
theorem dX4_write_30 : decode cX4_write 30 = .ok (.getfield 7, 3) := dk_180 0 7 (dk_at dksX4_write_1 7 rfl rfl)
theorem dX4_write_33 : decode cX4_write 33 = .ok (.aload_n 0, 1) := dk_42 (dk_at dksX4_write_1 10 rfl rfl)
theorem dX4_write_34 : decode cX4_write 34 = .ok (.getfield 13, 3) := dk_180 0 13 (dk_at dksX4_write_1 11 rfl rfl)
theorem dX4_write_37 : decode cX4_write 37 = .ok (.iload_n 3, 1) := dk_29 (dk_at dksX4_write_1 14 rfl rfl)
theorem dX4_write_38 : decode cX4_write 38 = .ok (.invokestatic 84, 3) := dk_184 0 84 (dk_at dksX4_write_1 15 rfl rfl)
theorem dX4_write_41 : decode cX4_write 41 = .ok (.invokevirtual 88, 3) := dk_182 0 88 (dk_at dksX4_write_1 18 rfl rfl)
theorem dX4_write_44 : decode cX4_write 44 = .ok (.invokevirtual 76, 3) := dk_182 0 76 (dk_at dksX4_write_1 21 rfl rfl)
theorem dX4_write_47 : decode cX4_write 47 = .ok (.pop, 1) := dk_87 (dk_at dksX4_write_2 0 rfl rfl)
theorem dX4_write_48 : decode cX4_write 48 = .ok (.iinc 3 1, 3) := dk_132 3 1 (dk_at dksX4_write_2 1 rfl rfl)
theorem dX4_write_51 : decode cX4_write 51 = .ok (.goto (-30), 3) := dk_167 255 226 (dk_at dksX4_write_2 4 rfl rfl)
theorem dX4_write_54 : decode cX4_write 54 = .ok (.aload_n 1, 1) := dk_43 (dk_at dksX4_write_2 7 rfl rfl)
theorem dX4_write_55 : decode cX4_write 55 = .ok (.bipush 10, 2) := dk_16 10 (dk_at dksX4_write_2 8 rfl rfl)
theorem dX4_write_57 : decode cX4_write 57 = .ok (.invokevirtual 76, 3) := dk_182 0 76 (dk_at dksX4_write_2 10 rfl rfl)
theorem dX4_write_60 : decode cX4_write 60 = .ok (.pop, 1) := dk_87 (dk_at dksX4_write_2 13 rfl rfl)
theorem dX4_write_61 : decode cX4_write 61 = .ok (.return_, 1) := dk_177 (dk_at dksX4_write_2 14 rfl rfl)
abbrev cX4_sign : ByteArray := prog_10_method_7_code
def yX4_sign : MethodName := ⟨RX4, "sign", "()I"⟩
def dkwX4_sign_0 : List UInt8 := [42, 180, 0, 16, 153, 0, 7, 2, 167, 0, 4, 4, 172]
abbrev dktX4_sign_0 : List UInt8 := dkwX4_sign_0 ++ []
theorem dksX4_sign_0 : cX4_sign.data.toList.drop 0 = dktX4_sign_0 := by decide +kernel
theorem dX4_sign_0 : decode cX4_sign 0 = .ok (.aload_n 0, 1) := dk_42 (dk_at dksX4_sign_0 0 rfl rfl)
theorem dX4_sign_1 : decode cX4_sign 1 = .ok (.getfield 16, 3) := dk_180 0 16 (dk_at dksX4_sign_0 1 rfl rfl)
theorem dX4_sign_4 : decode cX4_sign 4 = .ok (.ifCond .eq 7, 3) := dk_153 0 7 (dk_at dksX4_sign_0 4 rfl rfl)
theorem dX4_sign_7 : decode cX4_sign 7 = .ok (.iconst (-1), 1) := dk_2 (dk_at dksX4_sign_0 7 rfl rfl)
theorem dX4_sign_8 : decode cX4_sign 8 = .ok (.goto 4, 3) := dk_167 0 4 (dk_at dksX4_sign_0 8 rfl rfl)
theorem dX4_sign_11 : decode cX4_sign 11 = .ok (.iconst 1, 1) := dk_4 (dk_at dksX4_sign_0 11 rfl rfl)
theorem dX4_sign_12 : decode cX4_sign 12 = .ok (.ireturn, 1) := dk_172 (dk_at dksX4_sign_0 12 rfl rfl)
abbrev cX4_property : ByteArray := prog_10_method_8_code
def yX4_property : MethodName := ⟨RX4, "property", "(I)I"⟩
def dkwX4_property_3 : List UInt8 := [183, 0, 49, 191]
abbrev dktX4_property_3 : List UInt8 := dkwX4_property_3 ++ []
def dkwX4_property_2 : List UInt8 := [42, 180, 0, 7, 172, 42, 180, 0, 13, 172, 42, 182, 0, 40, 172, 42, 182, 0, 44, 172, 187, 0, 47, 89]
abbrev dktX4_property_2 : List UInt8 := dkwX4_property_2 ++ dktX4_property_3
def dkwX4_property_1 : List UInt8 := [170, 0, 0, 0, 0, 0, 51, 0, 0, 0, 0, 0, 0, 0, 3, 0, 0, 0, 31, 0, 0, 0, 36, 0, 0, 0, 41, 0, 0, 0, 46]
abbrev dktX4_property_1 : List UInt8 := dkwX4_property_1 ++ dktX4_property_2
def dkwX4_property_0 : List UInt8 := [27]
abbrev dktX4_property_0 : List UInt8 := dkwX4_property_0 ++ dktX4_property_1
theorem dksX4_property_0 : cX4_property.data.toList.drop 0 = dktX4_property_0 := by decide +kernel
theorem dksX4_property_1 : cX4_property.data.toList.drop 1 = dktX4_property_1 := dk_seg dksX4_property_0 1 rfl rfl
theorem dksX4_property_2 : cX4_property.data.toList.drop 32 = dktX4_property_2 := dk_seg dksX4_property_1 31 rfl rfl
theorem dksX4_property_3 : cX4_property.data.toList.drop 56 = dktX4_property_3 := dk_seg dksX4_property_2 24 rfl rfl
theorem dX4_property_0 : decode cX4_property 0 = .ok (.iload_n 1, 1) := dk_27 (dk_at dksX4_property_0 0 rfl rfl)
theorem dX4_property_1 : decode cX4_property 1 = .ok (.tableswitch 51 0 3 #[31, 36, 41, 46], 31) := by decide +kernel
theorem dX4_property_32 : decode cX4_property 32 = .ok (.aload_n 0, 1) := dk_42 (dk_at dksX4_property_2 0 rfl rfl)
theorem dX4_property_33 : decode cX4_property 33 = .ok (.getfield 7, 3) := dk_180 0 7 (dk_at dksX4_property_2 1 rfl rfl)
theorem dX4_property_36 : decode cX4_property 36 = .ok (.ireturn, 1) := dk_172 (dk_at dksX4_property_2 4 rfl rfl)
theorem dX4_property_37 : decode cX4_property 37 = .ok (.aload_n 0, 1) := dk_42 (dk_at dksX4_property_2 5 rfl rfl)
theorem dX4_property_38 : decode cX4_property 38 = .ok (.getfield 13, 3) := dk_180 0 13 (dk_at dksX4_property_2 6 rfl rfl)
theorem dX4_property_41 : decode cX4_property 41 = .ok (.ireturn, 1) := dk_172 (dk_at dksX4_property_2 9 rfl rfl)
theorem dX4_property_42 : decode cX4_property 42 = .ok (.aload_n 0, 1) := dk_42 (dk_at dksX4_property_2 10 rfl rfl)
theorem dX4_property_43 : decode cX4_property 43 = .ok (.invokevirtual 40, 3) := dk_182 0 40 (dk_at dksX4_property_2 11 rfl rfl)
theorem dX4_property_46 : decode cX4_property 46 = .ok (.ireturn, 1) := dk_172 (dk_at dksX4_property_2 14 rfl rfl)
theorem dX4_property_47 : decode cX4_property 47 = .ok (.aload_n 0, 1) := dk_42 (dk_at dksX4_property_2 15 rfl rfl)
theorem dX4_property_48 : decode cX4_property 48 = .ok (.invokevirtual 44, 3) := dk_182 0 44 (dk_at dksX4_property_2 16 rfl rfl)
theorem dX4_property_51 : decode cX4_property 51 = .ok (.ireturn, 1) := dk_172 (dk_at dksX4_property_2 19 rfl rfl)
theorem dX4_property_52 : decode cX4_property 52 = .ok (.new 47, 3) := dk_187 0 47 (dk_at dksX4_property_2 20 rfl rfl)
theorem dX4_property_55 : decode cX4_property 55 = .ok (.dup, 1) := dk_89 (dk_at dksX4_property_2 23 rfl rfl)
theorem dX4_property_56 : decode cX4_property 56 = .ok (.invokespecial 49, 3) := dk_183 0 49 (dk_at dksX4_property_3 0 rfl rfl)
theorem dX4_property_59 : decode cX4_property 59 = .ok (.athrow, 1) := dk_191 (dk_at dksX4_property_3 3 rfl rfl)
abbrev cX4_word : ByteArray := prog_10_method_3_code
def yX4_word : MethodName := ⟨RX4, "word", "()LStringTableau$Word;"⟩
def dkwX4_word_0 : List UInt8 := [187, 0, 23, 89, 42, 180, 0, 7, 42, 180, 0, 13, 183, 0, 25, 176]
abbrev dktX4_word_0 : List UInt8 := dkwX4_word_0 ++ []
theorem dksX4_word_0 : cX4_word.data.toList.drop 0 = dktX4_word_0 := by decide +kernel
theorem dX4_word_0 : decode cX4_word 0 = .ok (.new 23, 3) := dk_187 0 23 (dk_at dksX4_word_0 0 rfl rfl)
theorem dX4_word_3 : decode cX4_word 3 = .ok (.dup, 1) := dk_89 (dk_at dksX4_word_0 3 rfl rfl)
theorem dX4_word_4 : decode cX4_word 4 = .ok (.aload_n 0, 1) := dk_42 (dk_at dksX4_word_0 4 rfl rfl)
theorem dX4_word_5 : decode cX4_word 5 = .ok (.getfield 7, 3) := dk_180 0 7 (dk_at dksX4_word_0 5 rfl rfl)
theorem dX4_word_8 : decode cX4_word 8 = .ok (.aload_n 0, 1) := dk_42 (dk_at dksX4_word_0 8 rfl rfl)
theorem dX4_word_9 : decode cX4_word 9 = .ok (.getfield 13, 3) := dk_180 0 13 (dk_at dksX4_word_0 9 rfl rfl)
theorem dX4_word_12 : decode cX4_word 12 = .ok (.invokespecial 25, 3) := dk_183 0 25 (dk_at dksX4_word_0 12 rfl rfl)
theorem dX4_word_15 : decode cX4_word 15 = .ok (.areturn, 1) := dk_176 (dk_at dksX4_word_0 15 rfl rfl)
theorem q127 : (Jvm.Cond.initialized "StringTableau$Row") ∈ lw_all := lw_g (lw_at lw_m1 8 rfl) rfl
theorem q241 : (Jvm.Cond.instantiable "StringTableau$Row" (3 : Nat)) ∈ lw_all := lw_g (lw_at lw_m1 122 rfl) rfl
theorem q243 : (Jvm.Cond.instanceMethod ({ cls := "StringTableau$Row", name := "<init>", desc := "(IIZ)V" } : Jvm.MethodName)) ∈ lw_all := lw_g (lw_at lw_m1 124 rfl) rfl
theorem q244 : (Jvm.Cond.code ({ cls := "StringTableau$Row", name := "<init>", desc := "(IIZ)V" } : Jvm.MethodName) prog_10_method_1_code (4 : Nat) (Option.none : Option Jvm.ClassFile.FieldType)) ∈ lw_all := lw_g (lw_at lw_m1 125 rfl) rfl
theorem q245 : (Jvm.Cond.methodLink "StringTableau$Row" (1 : Nat) ({ cls := "java/lang/Object", name := "<init>", desc := "()V" } : Jvm.MethodName)) ∈ lw_all := lw_g (lw_at lw_m1 126 rfl) rfl
theorem q246 : (Jvm.Cond.fieldLink "StringTableau$Row" (7 : Nat) "StringTableau$Row" "x" "I") ∈ lw_all := lw_g (lw_at lw_m1 127 rfl) rfl
theorem q251 : (Jvm.Cond.fieldLink "StringTableau$Row" (13 : Nat) "StringTableau$Row" "z" "I") ∈ lw_all := lw_g (lw_at lw_m1 132 rfl) rfl
theorem q256 : (Jvm.Cond.fieldLink "StringTableau$Row" (16 : Nat) "StringTableau$Row" "minus" "Z") ∈ lw_all := lw_g (lw_at lw_m1 137 rfl) rfl
theorem q260 : (Jvm.Cond.lays "StringTableau$Row" "StringTableau$Row" "x" "I") ∈ lw_all := lw_g (lw_at lw_m1 141 rfl) rfl
theorem q261 : (Jvm.Cond.soleField "StringTableau$Row" "x") ∈ lw_all := lw_g (lw_at lw_m1 142 rfl) rfl
theorem q262 : (Jvm.Cond.lays "StringTableau$Row" "StringTableau$Row" "z" "I") ∈ lw_all := lw_g (lw_at lw_m1 143 rfl) rfl
theorem q263 : (Jvm.Cond.soleField "StringTableau$Row" "z") ∈ lw_all := lw_g (lw_at lw_m1 144 rfl) rfl
theorem q264 : (Jvm.Cond.lays "StringTableau$Row" "StringTableau$Row" "minus" "Z") ∈ lw_all := lw_g (lw_at lw_m1 145 rfl) rfl
theorem q265 : (Jvm.Cond.soleField "StringTableau$Row" "minus") ∈ lw_all := lw_g (lw_at lw_m1 146 rfl) rfl
theorem q266 : (Jvm.Cond.superclass "StringTableau$Row" "java/lang/Object") ∈ lw_all := lw_g (lw_at lw_m1 147 rfl) rfl
theorem q1051 : (Jvm.Cond.selects "StringTableau$Row" ({ cls := "java/lang/Object", name := "getClass", desc := "()Ljava/lang/Class;" } : Jvm.MethodName) ({ cls := "java/lang/Object", name := "getClass", desc := "()Ljava/lang/Class;" } : Jvm.MethodName)) ∈ lw_all := lw_g (lw_at lw_m4 212 rfl) rfl
theorem q1203 : (Jvm.Cond.instanceMethod ({ cls := "StringTableau$Row", name := "commutes", desc := "(II)Z" } : Jvm.MethodName)) ∈ lw_all := lw_g (lw_at lw_m5 124 rfl) rfl
theorem q1204 : (Jvm.Cond.selects "StringTableau$Row" ({ cls := "StringTableau$Row", name := "commutes", desc := "(II)Z" } : Jvm.MethodName) ({ cls := "StringTableau$Row", name := "commutes", desc := "(II)Z" } : Jvm.MethodName)) ∈ lw_all := lw_g (lw_at lw_m5 125 rfl) rfl
theorem q1205 : (Jvm.Cond.code ({ cls := "StringTableau$Row", name := "commutes", desc := "(II)Z" } : Jvm.MethodName) prog_10_method_5_code (3 : Nat) (Option.some Jvm.ClassFile.FieldType.boolean)) ∈ lw_all := lw_g (lw_at lw_m5 126 rfl) rfl
theorem q1206 : (Jvm.Cond.methodLinkNest "StringTableau$Row" (28 : Nat) ({ cls := "StringTableau", name := "doCommute", desc := "(IIII)Z" } : Jvm.MethodName) "StringTableau") ∈ lw_tbl := lw_at lw_m5 127 rfl
theorem q1231 : (Jvm.Cond.instanceMethod ({ cls := "StringTableau$Row", name := "multiply", desc := "(LStringTableau$Row;)V" } : Jvm.MethodName)) ∈ lw_all := lw_g (lw_at lw_m5 152 rfl) rfl
theorem q1232 : (Jvm.Cond.selects "StringTableau$Row" ({ cls := "StringTableau$Row", name := "multiply", desc := "(LStringTableau$Row;)V" } : Jvm.MethodName) ({ cls := "StringTableau$Row", name := "multiply", desc := "(LStringTableau$Row;)V" } : Jvm.MethodName)) ∈ lw_all := lw_g (lw_at lw_m5 153 rfl) rfl
theorem q1233 : (Jvm.Cond.code ({ cls := "StringTableau$Row", name := "multiply", desc := "(LStringTableau$Row;)V" } : Jvm.MethodName) prog_10_method_9_code (2 : Nat) (Option.none : Option Jvm.ClassFile.FieldType)) ∈ lw_all := lw_g (lw_at lw_m5 154 rfl) rfl
theorem q1234 : (Jvm.Cond.methodLinkNest "StringTableau$Row" (50 : Nat) ({ cls := "StringTableau", name := "phaseOf", desc := "(IIII)I" } : Jvm.MethodName) "StringTableau") ∈ lw_tbl := lw_at lw_m5 155 rfl
theorem q1306 : (Jvm.Cond.instanceMethod ({ cls := "StringTableau$Row", name := "copy", desc := "()LStringTableau$Row;" } : Jvm.MethodName)) ∈ lw_all := lw_g (lw_at lw_m5 227 rfl) rfl
theorem q1307 : (Jvm.Cond.selects "StringTableau$Row" ({ cls := "StringTableau$Row", name := "copy", desc := "()LStringTableau$Row;" } : Jvm.MethodName) ({ cls := "StringTableau$Row", name := "copy", desc := "()LStringTableau$Row;" } : Jvm.MethodName)) ∈ lw_all := lw_g (lw_at lw_m5 228 rfl) rfl
theorem q1308 : (Jvm.Cond.code ({ cls := "StringTableau$Row", name := "copy", desc := "()LStringTableau$Row;" } : Jvm.MethodName) prog_10_method_2_code (1 : Nat) (Option.some (Jvm.ClassFile.FieldType.object "StringTableau$Row"))) ∈ lw_all := lw_g (lw_at lw_m5 229 rfl) rfl
theorem q1309 : (Jvm.Cond.classLink "StringTableau$Row" (8 : Nat) "StringTableau$Row") ∈ lw_all := lw_g (lw_at lw_m5 230 rfl) rfl
theorem q1310 : (Jvm.Cond.methodLink "StringTableau$Row" (20 : Nat) ({ cls := "StringTableau$Row", name := "<init>", desc := "(IIZ)V" } : Jvm.MethodName)) ∈ lw_all := lw_g (lw_at lw_m5 231 rfl) rfl
theorem q1486 : (Jvm.Cond.instanceMethod ({ cls := "StringTableau$Row", name := "h", desc := "(I)V" } : Jvm.MethodName)) ∈ lw_all := lw_g (lw_at lw_m6 167 rfl) rfl
theorem q1487 : (Jvm.Cond.selects "StringTableau$Row" ({ cls := "StringTableau$Row", name := "h", desc := "(I)V" } : Jvm.MethodName) ({ cls := "StringTableau$Row", name := "h", desc := "(I)V" } : Jvm.MethodName)) ∈ lw_all := lw_g (lw_at lw_m6 168 rfl) rfl
theorem q1488 : (Jvm.Cond.code ({ cls := "StringTableau$Row", name := "h", desc := "(I)V" } : Jvm.MethodName) prog_10_method_15_code (4 : Nat) (Option.none : Option Jvm.ClassFile.FieldType)) ∈ lw_all := lw_g (lw_at lw_m6 169 rfl) rfl
theorem q1489 : (Jvm.Cond.methodLink "StringTableau$Row" (58 : Nat) ({ cls := "StringTableau$Row", name := "hasX", desc := "(I)Z" } : Jvm.MethodName)) ∈ lw_all := lw_g (lw_at lw_m6 170 rfl) rfl
theorem q1490 : (Jvm.Cond.privateMethod ({ cls := "StringTableau$Row", name := "hasX", desc := "(I)Z" } : Jvm.MethodName)) ∈ lw_tbl := lw_at lw_m6 171 rfl
theorem q1491 : (Jvm.Cond.instanceMethod ({ cls := "StringTableau$Row", name := "hasX", desc := "(I)Z" } : Jvm.MethodName)) ∈ lw_all := lw_g (lw_at lw_m6 172 rfl) rfl
theorem q1492 : (Jvm.Cond.code ({ cls := "StringTableau$Row", name := "hasX", desc := "(I)Z" } : Jvm.MethodName) prog_10_method_10_code (2 : Nat) (Option.some Jvm.ClassFile.FieldType.boolean)) ∈ lw_all := lw_g (lw_at lw_m6 173 rfl) rfl
theorem q1493 : (Jvm.Cond.methodLinkNest "StringTableau$Row" (54 : Nat) ({ cls := "StringTableau", name := "has", desc := "(II)Z" } : Jvm.MethodName) "StringTableau") ∈ lw_tbl := lw_at lw_m6 174 rfl
theorem q1494 : (Jvm.Cond.methodLink "StringTableau$Row" (62 : Nat) ({ cls := "StringTableau$Row", name := "hasZ", desc := "(I)Z" } : Jvm.MethodName)) ∈ lw_all := lw_g (lw_at lw_m6 175 rfl) rfl
theorem q1495 : (Jvm.Cond.privateMethod ({ cls := "StringTableau$Row", name := "hasZ", desc := "(I)Z" } : Jvm.MethodName)) ∈ lw_tbl := lw_at lw_m6 176 rfl
theorem q1496 : (Jvm.Cond.instanceMethod ({ cls := "StringTableau$Row", name := "hasZ", desc := "(I)Z" } : Jvm.MethodName)) ∈ lw_all := lw_g (lw_at lw_m6 177 rfl) rfl
theorem q1497 : (Jvm.Cond.code ({ cls := "StringTableau$Row", name := "hasZ", desc := "(I)Z" } : Jvm.MethodName) prog_10_method_11_code (2 : Nat) (Option.some Jvm.ClassFile.FieldType.boolean)) ∈ lw_all := lw_g (lw_at lw_m6 178 rfl) rfl
theorem q1498 : (Jvm.Cond.methodLink "StringTableau$Row" (65 : Nat) ({ cls := "StringTableau$Row", name := "flipIf", desc := "(Z)V" } : Jvm.MethodName)) ∈ lw_all := lw_g (lw_at lw_m6 179 rfl) rfl
theorem q1499 : (Jvm.Cond.instanceMethod ({ cls := "StringTableau$Row", name := "flipIf", desc := "(Z)V" } : Jvm.MethodName)) ∈ lw_all := lw_g (lw_at lw_m6 180 rfl) rfl
theorem q1500 : (Jvm.Cond.selects "StringTableau$Row" ({ cls := "StringTableau$Row", name := "flipIf", desc := "(Z)V" } : Jvm.MethodName) ({ cls := "StringTableau$Row", name := "flipIf", desc := "(Z)V" } : Jvm.MethodName)) ∈ lw_all := lw_g (lw_at lw_m6 181 rfl) rfl
theorem q1501 : (Jvm.Cond.code ({ cls := "StringTableau$Row", name := "flipIf", desc := "(Z)V" } : Jvm.MethodName) prog_10_method_12_code (2 : Nat) (Option.none : Option Jvm.ClassFile.FieldType)) ∈ lw_all := lw_g (lw_at lw_m6 182 rfl) rfl
theorem q1502 : (Jvm.Cond.methodLink "StringTableau$Row" (69 : Nat) ({ cls := "StringTableau$Row", name := "flipX", desc := "(IZ)V" } : Jvm.MethodName)) ∈ lw_all := lw_g (lw_at lw_m6 183 rfl) rfl
theorem q1503 : (Jvm.Cond.privateMethod ({ cls := "StringTableau$Row", name := "flipX", desc := "(IZ)V" } : Jvm.MethodName)) ∈ lw_tbl := lw_at lw_m6 184 rfl
theorem q1504 : (Jvm.Cond.instanceMethod ({ cls := "StringTableau$Row", name := "flipX", desc := "(IZ)V" } : Jvm.MethodName)) ∈ lw_all := lw_g (lw_at lw_m6 185 rfl) rfl
theorem q1505 : (Jvm.Cond.code ({ cls := "StringTableau$Row", name := "flipX", desc := "(IZ)V" } : Jvm.MethodName) prog_10_method_13_code (3 : Nat) (Option.none : Option Jvm.ClassFile.FieldType)) ∈ lw_all := lw_g (lw_at lw_m6 186 rfl) rfl
theorem q1506 : (Jvm.Cond.methodLink "StringTableau$Row" (73 : Nat) ({ cls := "StringTableau$Row", name := "flipZ", desc := "(IZ)V" } : Jvm.MethodName)) ∈ lw_all := lw_g (lw_at lw_m6 187 rfl) rfl
theorem q1507 : (Jvm.Cond.privateMethod ({ cls := "StringTableau$Row", name := "flipZ", desc := "(IZ)V" } : Jvm.MethodName)) ∈ lw_tbl := lw_at lw_m6 188 rfl
theorem q1508 : (Jvm.Cond.instanceMethod ({ cls := "StringTableau$Row", name := "flipZ", desc := "(IZ)V" } : Jvm.MethodName)) ∈ lw_all := lw_g (lw_at lw_m6 189 rfl) rfl
theorem q1509 : (Jvm.Cond.code ({ cls := "StringTableau$Row", name := "flipZ", desc := "(IZ)V" } : Jvm.MethodName) prog_10_method_14_code (3 : Nat) (Option.none : Option Jvm.ClassFile.FieldType)) ∈ lw_all := lw_g (lw_at lw_m6 190 rfl) rfl
theorem q1513 : (Jvm.Cond.instanceMethod ({ cls := "StringTableau$Row", name := "turn", desc := "(IZ)V" } : Jvm.MethodName)) ∈ lw_all := lw_g (lw_at lw_m6 194 rfl) rfl
theorem q1514 : (Jvm.Cond.selects "StringTableau$Row" ({ cls := "StringTableau$Row", name := "turn", desc := "(IZ)V" } : Jvm.MethodName) ({ cls := "StringTableau$Row", name := "turn", desc := "(IZ)V" } : Jvm.MethodName)) ∈ lw_all := lw_g (lw_at lw_m6 195 rfl) rfl
theorem q1515 : (Jvm.Cond.code ({ cls := "StringTableau$Row", name := "turn", desc := "(IZ)V" } : Jvm.MethodName) prog_10_method_16_code (3 : Nat) (Option.none : Option Jvm.ClassFile.FieldType)) ∈ lw_all := lw_g (lw_at lw_m6 196 rfl) rfl
theorem q1530 : (Jvm.Cond.instanceMethod ({ cls := "StringTableau$Row", name := "cx", desc := "(II)V" } : Jvm.MethodName)) ∈ lw_all := lw_g (lw_at lw_m6 211 rfl) rfl
theorem q1531 : (Jvm.Cond.selects "StringTableau$Row" ({ cls := "StringTableau$Row", name := "cx", desc := "(II)V" } : Jvm.MethodName) ({ cls := "StringTableau$Row", name := "cx", desc := "(II)V" } : Jvm.MethodName)) ∈ lw_all := lw_g (lw_at lw_m6 212 rfl) rfl
theorem q1532 : (Jvm.Cond.code ({ cls := "StringTableau$Row", name := "cx", desc := "(II)V" } : Jvm.MethodName) prog_10_method_17_code (3 : Nat) (Option.none : Option Jvm.ClassFile.FieldType)) ∈ lw_all := lw_g (lw_at lw_m6 213 rfl) rfl
theorem q1536 : (Jvm.Cond.instanceMethod ({ cls := "StringTableau$Row", name := "cz", desc := "(II)V" } : Jvm.MethodName)) ∈ lw_all := lw_g (lw_at lw_m6 217 rfl) rfl
theorem q1537 : (Jvm.Cond.selects "StringTableau$Row" ({ cls := "StringTableau$Row", name := "cz", desc := "(II)V" } : Jvm.MethodName) ({ cls := "StringTableau$Row", name := "cz", desc := "(II)V" } : Jvm.MethodName)) ∈ lw_all := lw_g (lw_at lw_m6 218 rfl) rfl
theorem q1538 : (Jvm.Cond.code ({ cls := "StringTableau$Row", name := "cz", desc := "(II)V" } : Jvm.MethodName) prog_10_method_18_code (3 : Nat) (Option.none : Option Jvm.ClassFile.FieldType)) ∈ lw_all := lw_g (lw_at lw_m6 219 rfl) rfl
theorem q1542 : (Jvm.Cond.instanceMethod ({ cls := "StringTableau$Row", name := "swap", desc := "(II)V" } : Jvm.MethodName)) ∈ lw_all := lw_g (lw_at lw_m6 223 rfl) rfl
theorem q1543 : (Jvm.Cond.selects "StringTableau$Row" ({ cls := "StringTableau$Row", name := "swap", desc := "(II)V" } : Jvm.MethodName) ({ cls := "StringTableau$Row", name := "swap", desc := "(II)V" } : Jvm.MethodName)) ∈ lw_all := lw_g (lw_at lw_m6 224 rfl) rfl
theorem q1544 : (Jvm.Cond.code ({ cls := "StringTableau$Row", name := "swap", desc := "(II)V" } : Jvm.MethodName) prog_10_method_19_code (5 : Nat) (Option.none : Option Jvm.ClassFile.FieldType)) ∈ lw_all := lw_g (lw_at lw_m6 225 rfl) rfl
theorem q1630 : (Jvm.Cond.instanceMethod ({ cls := "StringTableau$Row", name := "isLike", desc := "(LStringTableau$Row;)Z" } : Jvm.MethodName)) ∈ lw_all := lw_g (lw_at lw_m7 71 rfl) rfl
theorem q1631 : (Jvm.Cond.selects "StringTableau$Row" ({ cls := "StringTableau$Row", name := "isLike", desc := "(LStringTableau$Row;)Z" } : Jvm.MethodName) ({ cls := "StringTableau$Row", name := "isLike", desc := "(LStringTableau$Row;)Z" } : Jvm.MethodName)) ∈ lw_all := lw_g (lw_at lw_m7 72 rfl) rfl
theorem q1632 : (Jvm.Cond.code ({ cls := "StringTableau$Row", name := "isLike", desc := "(LStringTableau$Row;)Z" } : Jvm.MethodName) prog_10_method_4_code (2 : Nat) (Option.some Jvm.ClassFile.FieldType.boolean)) ∈ lw_all := lw_g (lw_at lw_m7 73 rfl) rfl
theorem q1660 : (Jvm.Cond.instanceMethod ({ cls := "StringTableau$Row", name := "weight", desc := "()I" } : Jvm.MethodName)) ∈ lw_all := lw_g (lw_at lw_m7 101 rfl) rfl
theorem q1661 : (Jvm.Cond.selects "StringTableau$Row" ({ cls := "StringTableau$Row", name := "weight", desc := "()I" } : Jvm.MethodName) ({ cls := "StringTableau$Row", name := "weight", desc := "()I" } : Jvm.MethodName)) ∈ lw_all := lw_g (lw_at lw_m7 102 rfl) rfl
theorem q1662 : (Jvm.Cond.code ({ cls := "StringTableau$Row", name := "weight", desc := "()I" } : Jvm.MethodName) prog_10_method_6_code (1 : Nat) (Option.some Jvm.ClassFile.FieldType.int)) ∈ lw_all := lw_g (lw_at lw_m7 103 rfl) rfl
theorem q1663 : (Jvm.Cond.methodLink "StringTableau$Row" (34 : Nat) ({ cls := "java/lang/Integer", name := "bitCount", desc := "(I)I" } : Jvm.MethodName)) ∈ lw_all := lw_g (lw_at lw_m7 104 rfl) rfl
theorem q1765 : (Jvm.Cond.instanceMethod ({ cls := "StringTableau$Row", name := "write", desc := "(Ljava/lang/StringBuilder;I)V" } : Jvm.MethodName)) ∈ lw_all := lw_g (lw_at lw_m7 206 rfl) rfl
theorem q1766 : (Jvm.Cond.selects "StringTableau$Row" ({ cls := "StringTableau$Row", name := "write", desc := "(Ljava/lang/StringBuilder;I)V" } : Jvm.MethodName) ({ cls := "StringTableau$Row", name := "write", desc := "(Ljava/lang/StringBuilder;I)V" } : Jvm.MethodName)) ∈ lw_all := lw_g (lw_at lw_m7 207 rfl) rfl
theorem q1767 : (Jvm.Cond.code ({ cls := "StringTableau$Row", name := "write", desc := "(Ljava/lang/StringBuilder;I)V" } : Jvm.MethodName) prog_10_method_20_code (4 : Nat) (Option.none : Option Jvm.ClassFile.FieldType)) ∈ lw_all := lw_g (lw_at lw_m7 208 rfl) rfl
theorem q1768 : (Jvm.Cond.methodLink "StringTableau$Row" (76 : Nat) ({ cls := "java/lang/StringBuilder", name := "append", desc := "(C)Ljava/lang/StringBuilder;" } : Jvm.MethodName)) ∈ lw_all := lw_g (lw_at lw_m7 209 rfl) rfl
theorem q1769 : (Jvm.Cond.stringRef "StringTableau$Row" (82 : Nat) "IXYZ") ∈ lw_tbl := lw_at lw_m7 210 rfl
theorem q1770 : (Jvm.Cond.methodLinkNest "StringTableau$Row" (84 : Nat) ({ cls := "StringTableau", name := "letterOf", desc := "(III)I" } : Jvm.MethodName) "StringTableau") ∈ lw_tbl := lw_at lw_m7 211 rfl
theorem q1771 : (Jvm.Cond.methodLink "StringTableau$Row" (88 : Nat) ({ cls := "java/lang/String", name := "charAt", desc := "(I)C" } : Jvm.MethodName)) ∈ lw_all := lw_g (lw_at lw_m7 212 rfl) rfl
theorem q1791 : (Jvm.Cond.instanceMethod ({ cls := "StringTableau$Row", name := "sign", desc := "()I" } : Jvm.MethodName)) ∈ lw_all := lw_g (lw_at lw_m7 232 rfl) rfl
theorem q1792 : (Jvm.Cond.selects "StringTableau$Row" ({ cls := "StringTableau$Row", name := "sign", desc := "()I" } : Jvm.MethodName) ({ cls := "StringTableau$Row", name := "sign", desc := "()I" } : Jvm.MethodName)) ∈ lw_all := lw_g (lw_at lw_m7 233 rfl) rfl
theorem q1793 : (Jvm.Cond.code ({ cls := "StringTableau$Row", name := "sign", desc := "()I" } : Jvm.MethodName) prog_10_method_7_code (1 : Nat) (Option.some Jvm.ClassFile.FieldType.int)) ∈ lw_all := lw_g (lw_at lw_m7 234 rfl) rfl
theorem q1979 : (Jvm.Cond.instanceMethod ({ cls := "StringTableau$Row", name := "property", desc := "(I)I" } : Jvm.MethodName)) ∈ lw_all := lw_g (lw_at lw_m8 180 rfl) rfl
theorem q1980 : (Jvm.Cond.selects "StringTableau$Row" ({ cls := "StringTableau$Row", name := "property", desc := "(I)I" } : Jvm.MethodName) ({ cls := "StringTableau$Row", name := "property", desc := "(I)I" } : Jvm.MethodName)) ∈ lw_all := lw_g (lw_at lw_m8 181 rfl) rfl
theorem q1981 : (Jvm.Cond.code ({ cls := "StringTableau$Row", name := "property", desc := "(I)I" } : Jvm.MethodName) prog_10_method_8_code (2 : Nat) (Option.some Jvm.ClassFile.FieldType.int)) ∈ lw_all := lw_g (lw_at lw_m8 182 rfl) rfl
theorem q1982 : (Jvm.Cond.methodLink "StringTableau$Row" (40 : Nat) ({ cls := "StringTableau$Row", name := "sign", desc := "()I" } : Jvm.MethodName)) ∈ lw_all := lw_g (lw_at lw_m8 183 rfl) rfl
theorem q1983 : (Jvm.Cond.methodLink "StringTableau$Row" (44 : Nat) ({ cls := "StringTableau$Row", name := "weight", desc := "()I" } : Jvm.MethodName)) ∈ lw_all := lw_g (lw_at lw_m8 184 rfl) rfl
theorem q1984 : (Jvm.Cond.classLink "StringTableau$Row" (47 : Nat) "java/lang/IndexOutOfBoundsException") ∈ lw_all := lw_g (lw_at lw_m8 185 rfl) rfl
theorem q1985 : (Jvm.Cond.methodLink "StringTableau$Row" (49 : Nat) ({ cls := "java/lang/IndexOutOfBoundsException", name := "<init>", desc := "()V" } : Jvm.MethodName)) ∈ lw_all := lw_g (lw_at lw_m8 186 rfl) rfl
theorem q2207 : (Jvm.Cond.instanceMethod ({ cls := "StringTableau$Row", name := "word", desc := "()LStringTableau$Word;" } : Jvm.MethodName)) ∈ lw_all := lw_g (lw_at lw_m9 168 rfl) rfl
theorem q2208 : (Jvm.Cond.selects "StringTableau$Row" ({ cls := "StringTableau$Row", name := "word", desc := "()LStringTableau$Word;" } : Jvm.MethodName) ({ cls := "StringTableau$Row", name := "word", desc := "()LStringTableau$Word;" } : Jvm.MethodName)) ∈ lw_all := lw_g (lw_at lw_m9 169 rfl) rfl
theorem q2209 : (Jvm.Cond.code ({ cls := "StringTableau$Row", name := "word", desc := "()LStringTableau$Word;" } : Jvm.MethodName) prog_10_method_3_code (1 : Nat) (Option.some (Jvm.ClassFile.FieldType.object "StringTableau$Word"))) ∈ lw_all := lw_g (lw_at lw_m9 170 rfl) rfl
theorem q2210 : (Jvm.Cond.classLink "StringTableau$Row" (23 : Nat) "StringTableau$Word") ∈ lw_all := lw_g (lw_at lw_m9 171 rfl) rfl
theorem q2212 : (Jvm.Cond.methodLink "StringTableau$Row" (25 : Nat) ({ cls := "StringTableau$Word", name := "<init>", desc := "(II)V" } : Jvm.MethodName)) ∈ lw_all := lw_g (lw_at lw_m9 173 rfl) rfl
theorem q2253 : (Jvm.Cond.selects "StringTableau$Row" ({ cls := "java/lang/Object", name := "hashCode", desc := "()I" } : Jvm.MethodName) ({ cls := "java/lang/Object", name := "hashCode", desc := "()I" } : Jvm.MethodName)) ∈ lw_all := lw_g (lw_at lw_m9 214 rfl) rfl
theorem q2610 : (Jvm.Cond.selects "StringTableau$Row" ({ cls := "java/lang/Object", name := "equals", desc := "(Ljava/lang/Object;)Z" } : Jvm.MethodName) ({ cls := "java/lang/Object", name := "equals", desc := "(Ljava/lang/Object;)Z" } : Jvm.MethodName)) ∈ lw_all := lw_g (lw_at lw_m11 91 rfl) rfl
theorem q3547 : (Jvm.Cond.castable "StringTableau$Row" "java/lang/Object") ∈ lw_tbl := lw_at lw_m15 68 rfl
theorem in_X4 : ∀ w ∈ wsX40, w ∈ lw_all := lw_in wsX40 [260, 262, 264] (by decide +kernel) (by decide +kernel)

/-! StringTableau$ParseException -/
set_option maxRecDepth 100000
def RX7 : String := "StringTableau$ParseException"
def TX7 : u_T := fun k => match k with
  | 0 => ("java/lang/Throwable", "cause", "Ljava/lang/Throwable;", false)
  | 1 => ("java/lang/Throwable", "stackTrace", "[Ljava/lang/StackTraceElement;", false)
  | 2 => ("java/lang/Throwable", "suppressedExceptions", "Ljava/util/List;", false)
  | 3 => ("java/lang/Throwable", "detailMessage", "Ljava/lang/String;", false)
  | 4 => ("java/lang/Throwable", "backtrace", "Ljava/lang/Object;", false)
  | 5 => ("java/lang/Throwable", "depth", "I", false)
  | 6 => ("StringTableau$ParseException", "code", "I", true)
  | _ => ("StringTableau$ParseException", "offset", "I", true)
def tyX7 : Nat → FieldType := fun k => match k with
  | 0 => .object "java/lang/Throwable"
  | 1 => .array (.object "java/lang/StackTraceElement")
  | 2 => .object "java/util/List"
  | 3 => .object "java/lang/String"
  | 4 => .object "java/lang/Object"
  | 5 => .int
  | 6 => .int
  | _ => .int
abbrev wsX70 : List Cond := u_ws RX7 TX7 8
theorem nmX7 : ∀ a, a < 8 → ∀ b, b < 8 → a ≠ b → (TX7 a).2.1 ≠ (TX7 b).2.1 := by decide +kernel
theorem tyX7_ok : ∀ k, k < 8 → parseFieldDescriptor (TX7 k).2.2.1 = some (tyX7 k) := by decide +kernel
abbrev cX7_init : ByteArray := prog_7_method_1_code
def yX7_init : MethodName := ⟨RX7, "<init>", "(II)V"⟩
def dkwX7_init_0 : List UInt8 := [42, 1, 1, 3, 3, 183, 0, 1, 42, 27, 181, 0, 7, 42, 28, 181, 0, 13, 177]
abbrev dktX7_init_0 : List UInt8 := dkwX7_init_0 ++ []
theorem dksX7_init_0 : cX7_init.data.toList.drop 0 = dktX7_init_0 := by decide +kernel
theorem dX7_init_0 : decode cX7_init 0 = .ok (.aload_n 0, 1) := dk_42 (dk_at dksX7_init_0 0 rfl rfl)
theorem dX7_init_1 : decode cX7_init 1 = .ok (.aconst_null, 1) := dk_1 (dk_at dksX7_init_0 1 rfl rfl)
theorem dX7_init_2 : decode cX7_init 2 = .ok (.aconst_null, 1) := dk_1 (dk_at dksX7_init_0 2 rfl rfl)
theorem dX7_init_3 : decode cX7_init 3 = .ok (.iconst 0, 1) := dk_3 (dk_at dksX7_init_0 3 rfl rfl)
theorem dX7_init_4 : decode cX7_init 4 = .ok (.iconst 0, 1) := dk_3 (dk_at dksX7_init_0 4 rfl rfl)
theorem dX7_init_5 : decode cX7_init 5 = .ok (.invokespecial 1, 3) := dk_183 0 1 (dk_at dksX7_init_0 5 rfl rfl)
theorem dX7_init_8 : decode cX7_init 8 = .ok (.aload_n 0, 1) := dk_42 (dk_at dksX7_init_0 8 rfl rfl)
theorem dX7_init_9 : decode cX7_init 9 = .ok (.iload_n 1, 1) := dk_27 (dk_at dksX7_init_0 9 rfl rfl)
theorem dX7_init_10 : decode cX7_init 10 = .ok (.putfield 7, 3) := dk_181 0 7 (dk_at dksX7_init_0 10 rfl rfl)
theorem dX7_init_13 : decode cX7_init 13 = .ok (.aload_n 0, 1) := dk_42 (dk_at dksX7_init_0 13 rfl rfl)
theorem dX7_init_14 : decode cX7_init 14 = .ok (.iload_n 2, 1) := dk_28 (dk_at dksX7_init_0 14 rfl rfl)
theorem dX7_init_15 : decode cX7_init 15 = .ok (.putfield 13, 3) := dk_181 0 13 (dk_at dksX7_init_0 15 rfl rfl)
theorem dX7_init_18 : decode cX7_init 18 = .ok (.return_, 1) := dk_177 (dk_at dksX7_init_0 18 rfl rfl)
theorem q146 : (Jvm.Cond.initialized "StringTableau$ParseException") ∈ lw_all := lw_g (lw_at lw_m1 27 rfl) rfl
theorem q583 : (Jvm.Cond.selects "StringTableau$ParseException" ({ cls := "java/lang/Throwable", name := "fillInStackTrace", desc := "()Ljava/lang/Throwable;" } : Jvm.MethodName) ({ cls := "java/lang/Throwable", name := "fillInStackTrace", desc := "()Ljava/lang/Throwable;" } : Jvm.MethodName)) ∈ lw_all := lw_g (lw_at lw_m2 224 rfl) rfl
theorem q779 : (Jvm.Cond.instantiable "StringTableau$ParseException" (8 : Nat)) ∈ lw_all := lw_g (lw_at lw_m3 180 rfl) rfl
theorem q780 : (Jvm.Cond.castable "StringTableau$ParseException" "StringTableau$ParseException") ∈ lw_tbl := lw_at lw_m3 181 rfl
theorem q781 : (Jvm.Cond.selects "StringTableau$ParseException" ({ cls := "java/lang/Throwable", name := "fillInStackTrace", desc := "(I)Ljava/lang/Throwable;" } : Jvm.MethodName) ({ cls := "java/lang/Throwable", name := "fillInStackTrace", desc := "(I)Ljava/lang/Throwable;" } : Jvm.MethodName)) ∈ lw_all := lw_g (lw_at lw_m3 182 rfl) rfl
theorem q782 : (Jvm.Cond.lays "StringTableau$ParseException" "java/lang/Throwable" "cause" "Ljava/lang/Throwable;") ∈ lw_all := lw_g (lw_at lw_m3 183 rfl) rfl
theorem q783 : (Jvm.Cond.lays "StringTableau$ParseException" "java/lang/Throwable" "stackTrace" "[Ljava/lang/StackTraceElement;") ∈ lw_all := lw_g (lw_at lw_m3 184 rfl) rfl
theorem q784 : (Jvm.Cond.lays "StringTableau$ParseException" "java/lang/Throwable" "suppressedExceptions" "Ljava/util/List;") ∈ lw_all := lw_g (lw_at lw_m3 185 rfl) rfl
theorem q785 : (Jvm.Cond.lays "StringTableau$ParseException" "java/lang/Throwable" "detailMessage" "Ljava/lang/String;") ∈ lw_all := lw_g (lw_at lw_m3 186 rfl) rfl
theorem q786 : (Jvm.Cond.lays "StringTableau$ParseException" "java/lang/Throwable" "backtrace" "Ljava/lang/Object;") ∈ lw_all := lw_g (lw_at lw_m3 187 rfl) rfl
theorem q788 : (Jvm.Cond.instanceMethod ({ cls := "StringTableau$ParseException", name := "<init>", desc := "(II)V" } : Jvm.MethodName)) ∈ lw_all := lw_g (lw_at lw_m3 189 rfl) rfl
theorem q789 : (Jvm.Cond.code ({ cls := "StringTableau$ParseException", name := "<init>", desc := "(II)V" } : Jvm.MethodName) prog_7_method_1_code (3 : Nat) (Option.none : Option Jvm.ClassFile.FieldType)) ∈ lw_all := lw_g (lw_at lw_m3 190 rfl) rfl
theorem q790 : (Jvm.Cond.methodLink "StringTableau$ParseException" (1 : Nat) ({ cls := "java/lang/Exception", name := "<init>", desc := "(Ljava/lang/String;Ljava/lang/Throwable;ZZ)V" } : Jvm.MethodName)) ∈ lw_all := lw_g (lw_at lw_m3 191 rfl) rfl
theorem q796 : (Jvm.Cond.fieldLink "StringTableau$ParseException" (7 : Nat) "StringTableau$ParseException" "code" "I") ∈ lw_all := lw_g (lw_at lw_m3 197 rfl) rfl
theorem q798 : (Jvm.Cond.fieldLink "StringTableau$ParseException" (13 : Nat) "StringTableau$ParseException" "offset" "I") ∈ lw_all := lw_g (lw_at lw_m3 199 rfl) rfl
theorem q800 : (Jvm.Cond.laysFinal "StringTableau$ParseException" "StringTableau$ParseException" "code" "I") ∈ lw_all := lw_g (lw_at lw_m3 201 rfl) rfl
theorem q801 : (Jvm.Cond.soleField "StringTableau$ParseException" "code") ∈ lw_all := lw_g (lw_at lw_m3 202 rfl) rfl
theorem q802 : (Jvm.Cond.laysFinal "StringTableau$ParseException" "StringTableau$ParseException" "offset" "I") ∈ lw_all := lw_g (lw_at lw_m3 203 rfl) rfl
theorem q803 : (Jvm.Cond.soleField "StringTableau$ParseException" "offset") ∈ lw_all := lw_g (lw_at lw_m3 204 rfl) rfl
theorem q804 : (Jvm.Cond.lays "StringTableau$ParseException" "java/lang/Throwable" "depth" "I") ∈ lw_all := lw_g (lw_at lw_m3 205 rfl) rfl
theorem q805 : (Jvm.Cond.superclass "StringTableau$ParseException" "java/lang/Exception") ∈ lw_all := lw_g (lw_at lw_m3 206 rfl) rfl
theorem q1048 : (Jvm.Cond.selects "StringTableau$ParseException" ({ cls := "java/lang/Object", name := "getClass", desc := "()Ljava/lang/Class;" } : Jvm.MethodName) ({ cls := "java/lang/Object", name := "getClass", desc := "()Ljava/lang/Class;" } : Jvm.MethodName)) ∈ lw_all := lw_g (lw_at lw_m4 209 rfl) rfl
theorem q2250 : (Jvm.Cond.selects "StringTableau$ParseException" ({ cls := "java/lang/Object", name := "hashCode", desc := "()I" } : Jvm.MethodName) ({ cls := "java/lang/Object", name := "hashCode", desc := "()I" } : Jvm.MethodName)) ∈ lw_all := lw_g (lw_at lw_m9 211 rfl) rfl
theorem q2607 : (Jvm.Cond.selects "StringTableau$ParseException" ({ cls := "java/lang/Object", name := "equals", desc := "(Ljava/lang/Object;)Z" } : Jvm.MethodName) ({ cls := "java/lang/Object", name := "equals", desc := "(Ljava/lang/Object;)Z" } : Jvm.MethodName)) ∈ lw_all := lw_g (lw_at lw_m11 88 rfl) rfl
theorem q3559 : (Jvm.Cond.castable "StringTableau$ParseException" "java/lang/Object") ∈ lw_tbl := lw_at lw_m15 80 rfl
theorem in_X7 : ∀ w ∈ wsX70, w ∈ lw_all := lw_in wsX70 [782, 783, 784, 785, 786, 804, 800, 802] (by decide +kernel) (by decide +kernel)

/-! StringTableau$Operation -/
set_option maxRecDepth 100000
def RX8 : String := "StringTableau$Operation"
abbrev cX8_init : ByteArray := prog_6_method_1_code
def yX8_init : MethodName := ⟨RX8, "<init>", "(LStringTableau;I)V"⟩
def dkwX8_init_0 : List UInt8 := [42, 43, 181, 0, 1, 42, 183, 0, 7, 42, 28, 181, 0, 13, 177]
abbrev dktX8_init_0 : List UInt8 := dkwX8_init_0 ++ []
theorem dksX8_init_0 : cX8_init.data.toList.drop 0 = dktX8_init_0 := by decide +kernel
theorem dX8_init_0 : decode cX8_init 0 = .ok (.aload_n 0, 1) := dk_42 (dk_at dksX8_init_0 0 rfl rfl)
theorem dX8_init_1 : decode cX8_init 1 = .ok (.aload_n 1, 1) := dk_43 (dk_at dksX8_init_0 1 rfl rfl)
theorem dX8_init_2 : decode cX8_init 2 = .ok (.putfield 1, 3) := dk_181 0 1 (dk_at dksX8_init_0 2 rfl rfl)
theorem dX8_init_5 : decode cX8_init 5 = .ok (.aload_n 0, 1) := dk_42 (dk_at dksX8_init_0 5 rfl rfl)
theorem dX8_init_6 : decode cX8_init 6 = .ok (.invokespecial 7, 3) := dk_183 0 7 (dk_at dksX8_init_0 6 rfl rfl)
theorem dX8_init_9 : decode cX8_init 9 = .ok (.aload_n 0, 1) := dk_42 (dk_at dksX8_init_0 9 rfl rfl)
theorem dX8_init_10 : decode cX8_init 10 = .ok (.iload_n 2, 1) := dk_28 (dk_at dksX8_init_0 10 rfl rfl)
theorem dX8_init_11 : decode cX8_init 11 = .ok (.putfield 13, 3) := dk_181 0 13 (dk_at dksX8_init_0 11 rfl rfl)
theorem dX8_init_14 : decode cX8_init 14 = .ok (.return_, 1) := dk_177 (dk_at dksX8_init_0 14 rfl rfl)
theorem q148 : (Jvm.Cond.initialized "StringTableau$Operation") ∈ lw_all := lw_g (lw_at lw_m1 29 rfl) rfl
theorem q993 : (Jvm.Cond.instanceMethod ({ cls := "StringTableau$Operation", name := "<init>", desc := "(LStringTableau;I)V" } : Jvm.MethodName)) ∈ lw_all := lw_g (lw_at lw_m4 154 rfl) rfl
theorem q994 : (Jvm.Cond.code ({ cls := "StringTableau$Operation", name := "<init>", desc := "(LStringTableau;I)V" } : Jvm.MethodName) prog_6_method_1_code (3 : Nat) (Option.none : Option Jvm.ClassFile.FieldType)) ∈ lw_all := lw_g (lw_at lw_m4 155 rfl) rfl
theorem q995 : (Jvm.Cond.methodLink "StringTableau$Operation" (7 : Nat) ({ cls := "java/lang/Object", name := "<init>", desc := "()V" } : Jvm.MethodName)) ∈ lw_all := lw_g (lw_at lw_m4 156 rfl) rfl
theorem q1000 : (Jvm.Cond.fieldLink "StringTableau$Operation" (13 : Nat) "StringTableau$Operation" "kind" "I") ∈ lw_all := lw_g (lw_at lw_m4 161 rfl) rfl
theorem q1003 : (Jvm.Cond.fieldLink "StringTableau$Operation" (1 : Nat) "StringTableau$Operation" "this$0" "LStringTableau;") ∈ lw_all := lw_g (lw_at lw_m4 164 rfl) rfl
theorem q1013 : (Jvm.Cond.soleField "StringTableau$Operation" "kind") ∈ lw_all := lw_g (lw_at lw_m4 174 rfl) rfl
theorem q1015 : (Jvm.Cond.soleField "StringTableau$Operation" "this$0") ∈ lw_all := lw_g (lw_at lw_m4 176 rfl) rfl
theorem q1182 : (Jvm.Cond.declares ({ cls := "StringTableau$Operation", name := "isPossible", desc := "()Z" } : Jvm.MethodName)) ∈ lw_tbl := lw_at lw_m5 103 rfl
theorem q1183 : (Jvm.Cond.sameMethod "StringTableau$Operation" "StringTableau$Operation" "isPossible" "()Z") ∈ lw_all := lw_g (lw_at lw_m5 104 rfl) rfl
theorem q1463 : (Jvm.Cond.declares ({ cls := "StringTableau$Operation", name := "execute", desc := "()Z" } : Jvm.MethodName)) ∈ lw_tbl := lw_at lw_m6 144 rfl
theorem q1464 : (Jvm.Cond.sameMethod "StringTableau$Operation" "StringTableau$Operation" "execute" "()Z") ∈ lw_all := lw_g (lw_at lw_m6 145 rfl) rfl
theorem q1782 : (Jvm.Cond.declares ({ cls := "StringTableau$Operation", name := "property", desc := "(I)I" } : Jvm.MethodName)) ∈ lw_tbl := lw_at lw_m7 223 rfl
theorem q1783 : (Jvm.Cond.sameMethod "StringTableau$Operation" "StringTableau$Operation" "property" "(I)I") ∈ lw_all := lw_g (lw_at lw_m7 224 rfl) rfl

/-! StringTableau$MeasureOperation -/
set_option maxRecDepth 100000
def RX9 : String := "StringTableau$MeasureOperation"
def TX9 : u_T := fun k => match k with
  | 0 => ("StringTableau$Operation", "kind", "I", true)
  | 1 => ("StringTableau$Operation", "this$0", "LStringTableau;", true)
  | 2 => ("StringTableau$MeasureOperation", "string", "LStringTableau$Row;", true)
  | 3 => ("StringTableau$MeasureOperation", "told", "I", true)
  | 4 => ("StringTableau$MeasureOperation", "number", "I", true)
  | _ => ("StringTableau$MeasureOperation", "this$0", "LStringTableau;", true)
def tyX9 : Nat → FieldType := fun k => match k with
  | 0 => .int
  | 1 => .object "StringTableau"
  | 2 => .object "StringTableau$Row"
  | 3 => .int
  | 4 => .int
  | _ => .object "StringTableau"
abbrev wsX90 : List Cond := u_ws RX9 TX9 6
-- two fields of one name: no nmX9
theorem tyX9_ok : ∀ k, k < 6 → parseFieldDescriptor (TX9 k).2.2.1 = some (tyX9 k) := by decide +kernel
abbrev cX9_init : ByteArray := prog_5_method_1_code
def yX9_init : MethodName := ⟨RX9, "<init>", "(LStringTableau;LStringTableau$Row;II)V"⟩
def dkwX9_init_1 : List UInt8 := [21, 4, 181, 0, 23, 177]
abbrev dktX9_init_1 : List UInt8 := dkwX9_init_1 ++ []
def dkwX9_init_0 : List UInt8 := [42, 43, 181, 0, 3, 42, 43, 16, 9, 183, 0, 9, 42, 44, 181, 0, 15, 42, 29, 181, 0, 19, 42]
abbrev dktX9_init_0 : List UInt8 := dkwX9_init_0 ++ dktX9_init_1
theorem dksX9_init_0 : cX9_init.data.toList.drop 0 = dktX9_init_0 := by decide +kernel
theorem dksX9_init_1 : cX9_init.data.toList.drop 23 = dktX9_init_1 := dk_seg dksX9_init_0 23 rfl rfl
theorem dX9_init_0 : decode cX9_init 0 = .ok (.aload_n 0, 1) := dk_42 (dk_at dksX9_init_0 0 rfl rfl)
theorem dX9_init_1 : decode cX9_init 1 = .ok (.aload_n 1, 1) := dk_43 (dk_at dksX9_init_0 1 rfl rfl)
theorem dX9_init_2 : decode cX9_init 2 = .ok (.putfield 3, 3) := dk_181 0 3 (dk_at dksX9_init_0 2 rfl rfl)
theorem dX9_init_5 : decode cX9_init 5 = .ok (.aload_n 0, 1) := dk_42 (dk_at dksX9_init_0 5 rfl rfl)
theorem dX9_init_6 : decode cX9_init 6 = .ok (.aload_n 1, 1) := dk_43 (dk_at dksX9_init_0 6 rfl rfl)
theorem dX9_init_7 : decode cX9_init 7 = .ok (.bipush 9, 2) := dk_16 9 (dk_at dksX9_init_0 7 rfl rfl)
theorem dX9_init_9 : decode cX9_init 9 = .ok (.invokespecial 9, 3) := dk_183 0 9 (dk_at dksX9_init_0 9 rfl rfl)
theorem dX9_init_12 : decode cX9_init 12 = .ok (.aload_n 0, 1) := dk_42 (dk_at dksX9_init_0 12 rfl rfl)
theorem dX9_init_13 : decode cX9_init 13 = .ok (.aload_n 2, 1) := dk_44 (dk_at dksX9_init_0 13 rfl rfl)
theorem dX9_init_14 : decode cX9_init 14 = .ok (.putfield 15, 3) := dk_181 0 15 (dk_at dksX9_init_0 14 rfl rfl)
theorem dX9_init_17 : decode cX9_init 17 = .ok (.aload_n 0, 1) := dk_42 (dk_at dksX9_init_0 17 rfl rfl)
theorem dX9_init_18 : decode cX9_init 18 = .ok (.iload_n 3, 1) := dk_29 (dk_at dksX9_init_0 18 rfl rfl)
theorem dX9_init_19 : decode cX9_init 19 = .ok (.putfield 19, 3) := dk_181 0 19 (dk_at dksX9_init_0 19 rfl rfl)
theorem dX9_init_22 : decode cX9_init 22 = .ok (.aload_n 0, 1) := dk_42 (dk_at dksX9_init_0 22 rfl rfl)
theorem dX9_init_23 : decode cX9_init 23 = .ok (.iload 4, 2) := dk_21 4 (dk_at dksX9_init_1 0 rfl rfl)
theorem dX9_init_25 : decode cX9_init 25 = .ok (.putfield 23, 3) := dk_181 0 23 (dk_at dksX9_init_1 2 rfl rfl)
theorem dX9_init_28 : decode cX9_init 28 = .ok (.return_, 1) := dk_177 (dk_at dksX9_init_1 5 rfl rfl)
abbrev cX9_isPossible : ByteArray := prog_5_method_2_code
def yX9_isPossible : MethodName := ⟨RX9, "isPossible", "()Z"⟩
def dkwX9_isPossible_0 : List UInt8 := [42, 180, 0, 3, 180, 0, 26, 42, 180, 0, 15, 42, 180, 0, 19, 182, 0, 30, 172]
abbrev dktX9_isPossible_0 : List UInt8 := dkwX9_isPossible_0 ++ []
theorem dksX9_isPossible_0 : cX9_isPossible.data.toList.drop 0 = dktX9_isPossible_0 := by decide +kernel
theorem dX9_isPossible_0 : decode cX9_isPossible 0 = .ok (.aload_n 0, 1) := dk_42 (dk_at dksX9_isPossible_0 0 rfl rfl)
theorem dX9_isPossible_1 : decode cX9_isPossible 1 = .ok (.getfield 3, 3) := dk_180 0 3 (dk_at dksX9_isPossible_0 1 rfl rfl)
theorem dX9_isPossible_4 : decode cX9_isPossible 4 = .ok (.getfield 26, 3) := dk_180 0 26 (dk_at dksX9_isPossible_0 4 rfl rfl)
theorem dX9_isPossible_7 : decode cX9_isPossible 7 = .ok (.aload_n 0, 1) := dk_42 (dk_at dksX9_isPossible_0 7 rfl rfl)
theorem dX9_isPossible_8 : decode cX9_isPossible 8 = .ok (.getfield 15, 3) := dk_180 0 15 (dk_at dksX9_isPossible_0 8 rfl rfl)
theorem dX9_isPossible_11 : decode cX9_isPossible 11 = .ok (.aload_n 0, 1) := dk_42 (dk_at dksX9_isPossible_0 11 rfl rfl)
theorem dX9_isPossible_12 : decode cX9_isPossible 12 = .ok (.getfield 19, 3) := dk_180 0 19 (dk_at dksX9_isPossible_0 12 rfl rfl)
theorem dX9_isPossible_15 : decode cX9_isPossible 15 = .ok (.invokevirtual 30, 3) := dk_182 0 30 (dk_at dksX9_isPossible_0 15 rfl rfl)
theorem dX9_isPossible_18 : decode cX9_isPossible 18 = .ok (.ireturn, 1) := dk_172 (dk_at dksX9_isPossible_0 18 rfl rfl)
abbrev cX9_execute : ByteArray := prog_5_method_3_code
def yX9_execute : MethodName := ⟨RX9, "execute", "()Z"⟩
def dkwX9_execute_1 : List UInt8 := [180, 0, 15, 42, 180, 0, 19, 182, 0, 40, 79, 4, 172]
abbrev dktX9_execute_1 : List UInt8 := dkwX9_execute_1 ++ []
def dkwX9_execute_0 : List UInt8 := [42, 180, 0, 3, 180, 0, 26, 180, 0, 36, 42, 180, 0, 23, 42, 180, 0, 3, 180, 0, 26, 42]
abbrev dktX9_execute_0 : List UInt8 := dkwX9_execute_0 ++ dktX9_execute_1
theorem dksX9_execute_0 : cX9_execute.data.toList.drop 0 = dktX9_execute_0 := by decide +kernel
theorem dksX9_execute_1 : cX9_execute.data.toList.drop 22 = dktX9_execute_1 := dk_seg dksX9_execute_0 22 rfl rfl
theorem dX9_execute_0 : decode cX9_execute 0 = .ok (.aload_n 0, 1) := dk_42 (dk_at dksX9_execute_0 0 rfl rfl)
theorem dX9_execute_1 : decode cX9_execute 1 = .ok (.getfield 3, 3) := dk_180 0 3 (dk_at dksX9_execute_0 1 rfl rfl)
theorem dX9_execute_4 : decode cX9_execute 4 = .ok (.getfield 26, 3) := dk_180 0 26 (dk_at dksX9_execute_0 4 rfl rfl)
theorem dX9_execute_7 : decode cX9_execute 7 = .ok (.getfield 36, 3) := dk_180 0 36 (dk_at dksX9_execute_0 7 rfl rfl)
theorem dX9_execute_10 : decode cX9_execute 10 = .ok (.aload_n 0, 1) := dk_42 (dk_at dksX9_execute_0 10 rfl rfl)
theorem dX9_execute_11 : decode cX9_execute 11 = .ok (.getfield 23, 3) := dk_180 0 23 (dk_at dksX9_execute_0 11 rfl rfl)
theorem dX9_execute_14 : decode cX9_execute 14 = .ok (.aload_n 0, 1) := dk_42 (dk_at dksX9_execute_0 14 rfl rfl)
theorem dX9_execute_15 : decode cX9_execute 15 = .ok (.getfield 3, 3) := dk_180 0 3 (dk_at dksX9_execute_0 15 rfl rfl)
theorem dX9_execute_18 : decode cX9_execute 18 = .ok (.getfield 26, 3) := dk_180 0 26 (dk_at dksX9_execute_0 18 rfl rfl)
theorem dX9_execute_21 : decode cX9_execute 21 = .ok (.aload_n 0, 1) := dk_42 (dk_at dksX9_execute_0 21 rfl rfl)
theorem dX9_execute_22 : decode cX9_execute 22 = .ok (.getfield 15, 3) := dk_180 0 15 (dk_at dksX9_execute_1 0 rfl rfl)
theorem dX9_execute_25 : decode cX9_execute 25 = .ok (.aload_n 0, 1) := dk_42 (dk_at dksX9_execute_1 3 rfl rfl)
theorem dX9_execute_26 : decode cX9_execute 26 = .ok (.getfield 19, 3) := dk_180 0 19 (dk_at dksX9_execute_1 4 rfl rfl)
theorem dX9_execute_29 : decode cX9_execute 29 = .ok (.invokevirtual 40, 3) := dk_182 0 40 (dk_at dksX9_execute_1 7 rfl rfl)
theorem dX9_execute_32 : decode cX9_execute 32 = .ok (.iastore, 1) := dk_79 (dk_at dksX9_execute_1 10 rfl rfl)
theorem dX9_execute_33 : decode cX9_execute 33 = .ok (.iconst 1, 1) := dk_4 (dk_at dksX9_execute_1 11 rfl rfl)
theorem dX9_execute_34 : decode cX9_execute 34 = .ok (.ireturn, 1) := dk_172 (dk_at dksX9_execute_1 12 rfl rfl)
abbrev cX9_property : ByteArray := prog_5_method_4_code
def yX9_property : MethodName := ⟨RX9, "property", "(I)I"⟩
def dkwX9_property_3 : List UInt8 := [42, 180, 0, 19, 172, 2, 172]
abbrev dktX9_property_3 : List UInt8 := dkwX9_property_3 ++ []
def dkwX9_property_2 : List UInt8 := [42, 180, 0, 15, 180, 0, 44, 172, 42, 180, 0, 15, 180, 0, 49, 172, 42, 180, 0, 15, 182, 0, 52, 172]
abbrev dktX9_property_2 : List UInt8 := dkwX9_property_2 ++ dktX9_property_3
def dkwX9_property_1 : List UInt8 := [170, 0, 0, 0, 0, 0, 60, 0, 0, 0, 4, 0, 0, 0, 7, 0, 0, 0, 31, 0, 0, 0, 39, 0, 0, 0, 47, 0, 0, 0, 55]
abbrev dktX9_property_1 : List UInt8 := dkwX9_property_1 ++ dktX9_property_2
def dkwX9_property_0 : List UInt8 := [27]
abbrev dktX9_property_0 : List UInt8 := dkwX9_property_0 ++ dktX9_property_1
theorem dksX9_property_0 : cX9_property.data.toList.drop 0 = dktX9_property_0 := by decide +kernel
theorem dksX9_property_1 : cX9_property.data.toList.drop 1 = dktX9_property_1 := dk_seg dksX9_property_0 1 rfl rfl
theorem dksX9_property_2 : cX9_property.data.toList.drop 32 = dktX9_property_2 := dk_seg dksX9_property_1 31 rfl rfl
theorem dksX9_property_3 : cX9_property.data.toList.drop 56 = dktX9_property_3 := dk_seg dksX9_property_2 24 rfl rfl
theorem dX9_property_0 : decode cX9_property 0 = .ok (.iload_n 1, 1) := dk_27 (dk_at dksX9_property_0 0 rfl rfl)
theorem dX9_property_1 : decode cX9_property 1 = .ok (.tableswitch 60 4 7 #[31, 39, 47, 55], 31) := by decide +kernel
theorem dX9_property_32 : decode cX9_property 32 = .ok (.aload_n 0, 1) := dk_42 (dk_at dksX9_property_2 0 rfl rfl)
theorem dX9_property_33 : decode cX9_property 33 = .ok (.getfield 15, 3) := dk_180 0 15 (dk_at dksX9_property_2 1 rfl rfl)
theorem dX9_property_36 : decode cX9_property 36 = .ok (.getfield 44, 3) := dk_180 0 44 (dk_at dksX9_property_2 4 rfl rfl)
theorem dX9_property_39 : decode cX9_property 39 = .ok (.ireturn, 1) := dk_172 (dk_at dksX9_property_2 7 rfl rfl)
theorem dX9_property_40 : decode cX9_property 40 = .ok (.aload_n 0, 1) := dk_42 (dk_at dksX9_property_2 8 rfl rfl)
theorem dX9_property_41 : decode cX9_property 41 = .ok (.getfield 15, 3) := dk_180 0 15 (dk_at dksX9_property_2 9 rfl rfl)
theorem dX9_property_44 : decode cX9_property 44 = .ok (.getfield 49, 3) := dk_180 0 49 (dk_at dksX9_property_2 12 rfl rfl)
theorem dX9_property_47 : decode cX9_property 47 = .ok (.ireturn, 1) := dk_172 (dk_at dksX9_property_2 15 rfl rfl)
theorem dX9_property_48 : decode cX9_property 48 = .ok (.aload_n 0, 1) := dk_42 (dk_at dksX9_property_2 16 rfl rfl)
theorem dX9_property_49 : decode cX9_property 49 = .ok (.getfield 15, 3) := dk_180 0 15 (dk_at dksX9_property_2 17 rfl rfl)
theorem dX9_property_52 : decode cX9_property 52 = .ok (.invokevirtual 52, 3) := dk_182 0 52 (dk_at dksX9_property_2 20 rfl rfl)
theorem dX9_property_55 : decode cX9_property 55 = .ok (.ireturn, 1) := dk_172 (dk_at dksX9_property_2 23 rfl rfl)
theorem dX9_property_56 : decode cX9_property 56 = .ok (.aload_n 0, 1) := dk_42 (dk_at dksX9_property_3 0 rfl rfl)
theorem dX9_property_57 : decode cX9_property 57 = .ok (.getfield 19, 3) := dk_180 0 19 (dk_at dksX9_property_3 1 rfl rfl)
theorem dX9_property_60 : decode cX9_property 60 = .ok (.ireturn, 1) := dk_172 (dk_at dksX9_property_3 4 rfl rfl)
theorem dX9_property_61 : decode cX9_property 61 = .ok (.iconst (-1), 1) := dk_2 (dk_at dksX9_property_3 5 rfl rfl)
theorem dX9_property_62 : decode cX9_property 62 = .ok (.ireturn, 1) := dk_172 (dk_at dksX9_property_3 6 rfl rfl)
theorem q149 : (Jvm.Cond.initialized "StringTableau$MeasureOperation") ∈ lw_all := lw_g (lw_at lw_m1 30 rfl) rfl
theorem q247 : (Jvm.Cond.fieldLinkNest "StringTableau$MeasureOperation" (44 : Nat) "StringTableau$Row" "x" "I" "StringTableau") ∈ lw_tbl := lw_at lw_m1 128 rfl
theorem q252 : (Jvm.Cond.fieldLinkNest "StringTableau$MeasureOperation" (49 : Nat) "StringTableau$Row" "z" "I" "StringTableau") ∈ lw_tbl := lw_at lw_m1 133 rfl
theorem q282 : (Jvm.Cond.fieldLinkNest "StringTableau$MeasureOperation" (36 : Nat) "StringTableau$State" "outcomes" "[I" "StringTableau") ∈ lw_tbl := lw_at lw_m1 163 rfl
theorem q344 : (Jvm.Cond.fieldLinkNest "StringTableau$MeasureOperation" (26 : Nat) "StringTableau" "state" "LStringTableau$State;" "StringTableau") ∈ lw_tbl := lw_at lw_m1 225 rfl
theorem q988 : (Jvm.Cond.instantiable "StringTableau$MeasureOperation" (6 : Nat)) ∈ lw_all := lw_g (lw_at lw_m4 149 rfl) rfl
theorem q990 : (Jvm.Cond.instanceMethod ({ cls := "StringTableau$MeasureOperation", name := "<init>", desc := "(LStringTableau;LStringTableau$Row;II)V" } : Jvm.MethodName)) ∈ lw_all := lw_g (lw_at lw_m4 151 rfl) rfl
theorem q991 : (Jvm.Cond.code ({ cls := "StringTableau$MeasureOperation", name := "<init>", desc := "(LStringTableau;LStringTableau$Row;II)V" } : Jvm.MethodName) prog_5_method_1_code (5 : Nat) (Option.none : Option Jvm.ClassFile.FieldType)) ∈ lw_all := lw_g (lw_at lw_m4 152 rfl) rfl
theorem q992 : (Jvm.Cond.methodLink "StringTableau$MeasureOperation" (9 : Nat) ({ cls := "StringTableau$Operation", name := "<init>", desc := "(LStringTableau;I)V" } : Jvm.MethodName)) ∈ lw_all := lw_g (lw_at lw_m4 153 rfl) rfl
theorem q996 : (Jvm.Cond.fieldLink "StringTableau$MeasureOperation" (15 : Nat) "StringTableau$MeasureOperation" "string" "LStringTableau$Row;") ∈ lw_all := lw_g (lw_at lw_m4 157 rfl) rfl
theorem q997 : (Jvm.Cond.fieldLink "StringTableau$MeasureOperation" (19 : Nat) "StringTableau$MeasureOperation" "told" "I") ∈ lw_all := lw_g (lw_at lw_m4 158 rfl) rfl
theorem q998 : (Jvm.Cond.fieldLink "StringTableau$MeasureOperation" (23 : Nat) "StringTableau$MeasureOperation" "number" "I") ∈ lw_all := lw_g (lw_at lw_m4 159 rfl) rfl
theorem q999 : (Jvm.Cond.fieldLink "StringTableau$MeasureOperation" (3 : Nat) "StringTableau$MeasureOperation" "this$0" "LStringTableau;") ∈ lw_all := lw_g (lw_at lw_m4 160 rfl) rfl
theorem q1004 : (Jvm.Cond.laysFinal "StringTableau$MeasureOperation" "StringTableau$MeasureOperation" "string" "LStringTableau$Row;") ∈ lw_all := lw_g (lw_at lw_m4 165 rfl) rfl
theorem q1005 : (Jvm.Cond.soleField "StringTableau$MeasureOperation" "string") ∈ lw_all := lw_g (lw_at lw_m4 166 rfl) rfl
theorem q1006 : (Jvm.Cond.laysFinal "StringTableau$MeasureOperation" "StringTableau$MeasureOperation" "told" "I") ∈ lw_all := lw_g (lw_at lw_m4 167 rfl) rfl
theorem q1007 : (Jvm.Cond.soleField "StringTableau$MeasureOperation" "told") ∈ lw_all := lw_g (lw_at lw_m4 168 rfl) rfl
theorem q1008 : (Jvm.Cond.laysFinal "StringTableau$MeasureOperation" "StringTableau$MeasureOperation" "number" "I") ∈ lw_all := lw_g (lw_at lw_m4 169 rfl) rfl
theorem q1009 : (Jvm.Cond.soleField "StringTableau$MeasureOperation" "number") ∈ lw_all := lw_g (lw_at lw_m4 170 rfl) rfl
theorem q1010 : (Jvm.Cond.laysFinal "StringTableau$MeasureOperation" "StringTableau$MeasureOperation" "this$0" "LStringTableau;") ∈ lw_all := lw_g (lw_at lw_m4 171 rfl) rfl
theorem q1011 : (Jvm.Cond.soleField "StringTableau$MeasureOperation" "this$0") ∈ lw_all := lw_g (lw_at lw_m4 172 rfl) rfl
theorem q1012 : (Jvm.Cond.laysFinal "StringTableau$MeasureOperation" "StringTableau$Operation" "kind" "I") ∈ lw_all := lw_g (lw_at lw_m4 173 rfl) rfl
theorem q1014 : (Jvm.Cond.laysFinal "StringTableau$MeasureOperation" "StringTableau$Operation" "this$0" "LStringTableau;") ∈ lw_all := lw_g (lw_at lw_m4 175 rfl) rfl
theorem q1016 : (Jvm.Cond.superclass "StringTableau$MeasureOperation" "StringTableau$Operation") ∈ lw_all := lw_g (lw_at lw_m4 177 rfl) rfl
theorem q1047 : (Jvm.Cond.selects "StringTableau$MeasureOperation" ({ cls := "java/lang/Object", name := "getClass", desc := "()Ljava/lang/Class;" } : Jvm.MethodName) ({ cls := "java/lang/Object", name := "getClass", desc := "()Ljava/lang/Class;" } : Jvm.MethodName)) ∈ lw_all := lw_g (lw_at lw_m4 208 rfl) rfl
theorem q1187 : (Jvm.Cond.selects "StringTableau$MeasureOperation" ({ cls := "StringTableau$Operation", name := "isPossible", desc := "()Z" } : Jvm.MethodName) ({ cls := "StringTableau$MeasureOperation", name := "isPossible", desc := "()Z" } : Jvm.MethodName)) ∈ lw_all := lw_g (lw_at lw_m5 108 rfl) rfl
theorem q1188 : (Jvm.Cond.instanceMethod ({ cls := "StringTableau$MeasureOperation", name := "isPossible", desc := "()Z" } : Jvm.MethodName)) ∈ lw_all := lw_g (lw_at lw_m5 109 rfl) rfl
theorem q1189 : (Jvm.Cond.code ({ cls := "StringTableau$MeasureOperation", name := "isPossible", desc := "()Z" } : Jvm.MethodName) prog_5_method_2_code (1 : Nat) (Option.some Jvm.ClassFile.FieldType.boolean)) ∈ lw_all := lw_g (lw_at lw_m5 110 rfl) rfl
theorem q1190 : (Jvm.Cond.methodLink "StringTableau$MeasureOperation" (30 : Nat) ({ cls := "StringTableau$State", name := "canMeasure", desc := "(LStringTableau$Row;I)Z" } : Jvm.MethodName)) ∈ lw_all := lw_g (lw_at lw_m5 111 rfl) rfl
theorem q1551 : (Jvm.Cond.selects "StringTableau$MeasureOperation" ({ cls := "StringTableau$Operation", name := "execute", desc := "()Z" } : Jvm.MethodName) ({ cls := "StringTableau$MeasureOperation", name := "execute", desc := "()Z" } : Jvm.MethodName)) ∈ lw_all := lw_g (lw_at lw_m6 232 rfl) rfl
theorem q1552 : (Jvm.Cond.instanceMethod ({ cls := "StringTableau$MeasureOperation", name := "execute", desc := "()Z" } : Jvm.MethodName)) ∈ lw_all := lw_g (lw_at lw_m6 233 rfl) rfl
theorem q1553 : (Jvm.Cond.code ({ cls := "StringTableau$MeasureOperation", name := "execute", desc := "()Z" } : Jvm.MethodName) prog_5_method_3_code (1 : Nat) (Option.some Jvm.ClassFile.FieldType.boolean)) ∈ lw_all := lw_g (lw_at lw_m6 234 rfl) rfl
theorem q1554 : (Jvm.Cond.methodLink "StringTableau$MeasureOperation" (40 : Nat) ({ cls := "StringTableau$State", name := "measure", desc := "(LStringTableau$Row;I)I" } : Jvm.MethodName)) ∈ lw_all := lw_g (lw_at lw_m6 235 rfl) rfl
theorem q1787 : (Jvm.Cond.selects "StringTableau$MeasureOperation" ({ cls := "StringTableau$Operation", name := "property", desc := "(I)I" } : Jvm.MethodName) ({ cls := "StringTableau$MeasureOperation", name := "property", desc := "(I)I" } : Jvm.MethodName)) ∈ lw_all := lw_g (lw_at lw_m7 228 rfl) rfl
theorem q1788 : (Jvm.Cond.instanceMethod ({ cls := "StringTableau$MeasureOperation", name := "property", desc := "(I)I" } : Jvm.MethodName)) ∈ lw_all := lw_g (lw_at lw_m7 229 rfl) rfl
theorem q1789 : (Jvm.Cond.code ({ cls := "StringTableau$MeasureOperation", name := "property", desc := "(I)I" } : Jvm.MethodName) prog_5_method_4_code (2 : Nat) (Option.some Jvm.ClassFile.FieldType.int)) ∈ lw_all := lw_g (lw_at lw_m7 230 rfl) rfl
theorem q1790 : (Jvm.Cond.methodLink "StringTableau$MeasureOperation" (52 : Nat) ({ cls := "StringTableau$Row", name := "sign", desc := "()I" } : Jvm.MethodName)) ∈ lw_all := lw_g (lw_at lw_m7 231 rfl) rfl
theorem q2249 : (Jvm.Cond.selects "StringTableau$MeasureOperation" ({ cls := "java/lang/Object", name := "hashCode", desc := "()I" } : Jvm.MethodName) ({ cls := "java/lang/Object", name := "hashCode", desc := "()I" } : Jvm.MethodName)) ∈ lw_all := lw_g (lw_at lw_m9 210 rfl) rfl
theorem q2606 : (Jvm.Cond.selects "StringTableau$MeasureOperation" ({ cls := "java/lang/Object", name := "equals", desc := "(Ljava/lang/Object;)Z" } : Jvm.MethodName) ({ cls := "java/lang/Object", name := "equals", desc := "(Ljava/lang/Object;)Z" } : Jvm.MethodName)) ∈ lw_all := lw_g (lw_at lw_m11 87 rfl) rfl
theorem q3545 : (Jvm.Cond.castable "StringTableau$MeasureOperation" "StringTableau$Operation") ∈ lw_tbl := lw_at lw_m15 66 rfl
theorem q3561 : (Jvm.Cond.castable "StringTableau$MeasureOperation" "java/lang/Object") ∈ lw_tbl := lw_at lw_m15 82 rfl
theorem in_X9 : ∀ w ∈ wsX90, w ∈ lw_all := lw_in wsX90 [1012, 1014, 1004, 1006, 1008, 1010] (by decide +kernel) (by decide +kernel)

/-! StringTableau$GateOperation -/
set_option maxRecDepth 100000
def RX10 : String := "StringTableau$GateOperation"
def TX10 : u_T := fun k => match k with
  | 0 => ("StringTableau$Operation", "kind", "I", true)
  | 1 => ("StringTableau$Operation", "this$0", "LStringTableau;", true)
  | 2 => ("StringTableau$GateOperation", "a", "I", true)
  | 3 => ("StringTableau$GateOperation", "b", "I", true)
  | 4 => ("StringTableau$GateOperation", "when", "I", true)
  | _ => ("StringTableau$GateOperation", "this$0", "LStringTableau;", true)
def tyX10 : Nat → FieldType := fun k => match k with
  | 0 => .int
  | 1 => .object "StringTableau"
  | 2 => .int
  | 3 => .int
  | 4 => .int
  | _ => .object "StringTableau"
abbrev wsX100 : List Cond := u_ws RX10 TX10 6
-- two fields of one name: no nmX10
theorem tyX10_ok : ∀ k, k < 6 → parseFieldDescriptor (TX10 k).2.2.1 = some (tyX10 k) := by decide +kernel
abbrev cX10_init : ByteArray := prog_4_method_1_code
def yX10_init : MethodName := ⟨RX10, "<init>", "(LStringTableau;IIII)V"⟩
def dkwX10_init_1 : List UInt8 := [21, 5, 181, 0, 22, 177]
abbrev dktX10_init_1 : List UInt8 := dkwX10_init_1 ++ []
def dkwX10_init_0 : List UInt8 := [42, 43, 181, 0, 3, 42, 43, 28, 183, 0, 9, 42, 29, 181, 0, 15, 42, 21, 4, 181, 0, 19, 42]
abbrev dktX10_init_0 : List UInt8 := dkwX10_init_0 ++ dktX10_init_1
theorem dksX10_init_0 : cX10_init.data.toList.drop 0 = dktX10_init_0 := by decide +kernel
theorem dksX10_init_1 : cX10_init.data.toList.drop 23 = dktX10_init_1 := dk_seg dksX10_init_0 23 rfl rfl
theorem dX10_init_0 : decode cX10_init 0 = .ok (.aload_n 0, 1) := dk_42 (dk_at dksX10_init_0 0 rfl rfl)
theorem dX10_init_1 : decode cX10_init 1 = .ok (.aload_n 1, 1) := dk_43 (dk_at dksX10_init_0 1 rfl rfl)
theorem dX10_init_2 : decode cX10_init 2 = .ok (.putfield 3, 3) := dk_181 0 3 (dk_at dksX10_init_0 2 rfl rfl)
theorem dX10_init_5 : decode cX10_init 5 = .ok (.aload_n 0, 1) := dk_42 (dk_at dksX10_init_0 5 rfl rfl)
theorem dX10_init_6 : decode cX10_init 6 = .ok (.aload_n 1, 1) := dk_43 (dk_at dksX10_init_0 6 rfl rfl)
theorem dX10_init_7 : decode cX10_init 7 = .ok (.iload_n 2, 1) := dk_28 (dk_at dksX10_init_0 7 rfl rfl)
theorem dX10_init_8 : decode cX10_init 8 = .ok (.invokespecial 9, 3) := dk_183 0 9 (dk_at dksX10_init_0 8 rfl rfl)
theorem dX10_init_11 : decode cX10_init 11 = .ok (.aload_n 0, 1) := dk_42 (dk_at dksX10_init_0 11 rfl rfl)
theorem dX10_init_12 : decode cX10_init 12 = .ok (.iload_n 3, 1) := dk_29 (dk_at dksX10_init_0 12 rfl rfl)
theorem dX10_init_13 : decode cX10_init 13 = .ok (.putfield 15, 3) := dk_181 0 15 (dk_at dksX10_init_0 13 rfl rfl)
theorem dX10_init_16 : decode cX10_init 16 = .ok (.aload_n 0, 1) := dk_42 (dk_at dksX10_init_0 16 rfl rfl)
theorem dX10_init_17 : decode cX10_init 17 = .ok (.iload 4, 2) := dk_21 4 (dk_at dksX10_init_0 17 rfl rfl)
theorem dX10_init_19 : decode cX10_init 19 = .ok (.putfield 19, 3) := dk_181 0 19 (dk_at dksX10_init_0 19 rfl rfl)
theorem dX10_init_22 : decode cX10_init 22 = .ok (.aload_n 0, 1) := dk_42 (dk_at dksX10_init_0 22 rfl rfl)
theorem dX10_init_23 : decode cX10_init 23 = .ok (.iload 5, 2) := dk_21 5 (dk_at dksX10_init_1 0 rfl rfl)
theorem dX10_init_25 : decode cX10_init 25 = .ok (.putfield 22, 3) := dk_181 0 22 (dk_at dksX10_init_1 2 rfl rfl)
theorem dX10_init_28 : decode cX10_init 28 = .ok (.return_, 1) := dk_177 (dk_at dksX10_init_1 5 rfl rfl)
abbrev cX10_isPossible : ByteArray := prog_4_method_3_code
def yX10_isPossible : MethodName := ⟨RX10, "isPossible", "()Z"⟩
theorem dX10_isPossible_0 : decode cX10_isPossible 0 = .ok (.iconst 1, 1) := by decide +kernel
theorem dX10_isPossible_1 : decode cX10_isPossible 1 = .ok (.ireturn, 1) := by decide +kernel
abbrev cX10_execute : ByteArray := prog_4_method_4_code
def yX10_execute : MethodName := ⟨RX10, "execute", "()Z"⟩
def dkwX10_execute_2 : List UInt8 := [182, 0, 52, 4, 172]
abbrev dktX10_execute_2 : List UInt8 := dkwX10_execute_2 ++ []
def dkwX10_execute_1 : List UInt8 := [159, 0, 5, 3, 172, 42, 180, 0, 3, 180, 0, 42, 42, 180, 0, 25, 42, 180, 0, 15, 42, 180, 0, 19]
abbrev dktX10_execute_1 : List UInt8 := dkwX10_execute_1 ++ dktX10_execute_2
def dkwX10_execute_0 : List UInt8 := [42, 180, 0, 22, 2, 159, 0, 24, 42, 180, 0, 3, 180, 0, 42, 180, 0, 46, 42, 180, 0, 22, 46, 2]
abbrev dktX10_execute_0 : List UInt8 := dkwX10_execute_0 ++ dktX10_execute_1
theorem dksX10_execute_0 : cX10_execute.data.toList.drop 0 = dktX10_execute_0 := by decide +kernel
theorem dksX10_execute_1 : cX10_execute.data.toList.drop 24 = dktX10_execute_1 := dk_seg dksX10_execute_0 24 rfl rfl
theorem dksX10_execute_2 : cX10_execute.data.toList.drop 48 = dktX10_execute_2 := dk_seg dksX10_execute_1 24 rfl rfl
theorem dX10_execute_0 : decode cX10_execute 0 = .ok (.aload_n 0, 1) := dk_42 (dk_at dksX10_execute_0 0 rfl rfl)
theorem dX10_execute_1 : decode cX10_execute 1 = .ok (.getfield 22, 3) := dk_180 0 22 (dk_at dksX10_execute_0 1 rfl rfl)
theorem dX10_execute_4 : decode cX10_execute 4 = .ok (.iconst (-1), 1) := dk_2 (dk_at dksX10_execute_0 4 rfl rfl)
theorem dX10_execute_5 : decode cX10_execute 5 = .ok (.if_icmp .eq 24, 3) := dk_159 0 24 (dk_at dksX10_execute_0 5 rfl rfl)
theorem dX10_execute_8 : decode cX10_execute 8 = .ok (.aload_n 0, 1) := dk_42 (dk_at dksX10_execute_0 8 rfl rfl)
theorem dX10_execute_9 : decode cX10_execute 9 = .ok (.getfield 3, 3) := dk_180 0 3 (dk_at dksX10_execute_0 9 rfl rfl)
theorem dX10_execute_12 : decode cX10_execute 12 = .ok (.getfield 42, 3) := dk_180 0 42 (dk_at dksX10_execute_0 12 rfl rfl)
theorem dX10_execute_15 : decode cX10_execute 15 = .ok (.getfield 46, 3) := dk_180 0 46 (dk_at dksX10_execute_0 15 rfl rfl)
theorem dX10_execute_18 : decode cX10_execute 18 = .ok (.aload_n 0, 1) := dk_42 (dk_at dksX10_execute_0 18 rfl rfl)
theorem dX10_execute_19 : decode cX10_execute 19 = .ok (.getfield 22, 3) := dk_180 0 22 (dk_at dksX10_execute_0 19 rfl rfl)
theorem dX10_execute_22 : decode cX10_execute 22 = .ok (.iaload, 1) := dk_46 (dk_at dksX10_execute_0 22 rfl rfl)
theorem dX10_execute_23 : decode cX10_execute 23 = .ok (.iconst (-1), 1) := dk_2 (dk_at dksX10_execute_0 23 rfl rfl)
theorem dX10_execute_24 : decode cX10_execute 24 = .ok (.if_icmp .eq 5, 3) := dk_159 0 5 (dk_at dksX10_execute_1 0 rfl rfl)
theorem dX10_execute_27 : decode cX10_execute 27 = .ok (.iconst 0, 1) := dk_3 (dk_at dksX10_execute_1 3 rfl rfl)
theorem dX10_execute_28 : decode cX10_execute 28 = .ok (.ireturn, 1) := dk_172 (dk_at dksX10_execute_1 4 rfl rfl)
theorem dX10_execute_29 : decode cX10_execute 29 = .ok (.aload_n 0, 1) := dk_42 (dk_at dksX10_execute_1 5 rfl rfl)
theorem dX10_execute_30 : decode cX10_execute 30 = .ok (.getfield 3, 3) := dk_180 0 3 (dk_at dksX10_execute_1 6 rfl rfl)
theorem dX10_execute_33 : decode cX10_execute 33 = .ok (.getfield 42, 3) := dk_180 0 42 (dk_at dksX10_execute_1 9 rfl rfl)
theorem dX10_execute_36 : decode cX10_execute 36 = .ok (.aload_n 0, 1) := dk_42 (dk_at dksX10_execute_1 12 rfl rfl)
theorem dX10_execute_37 : decode cX10_execute 37 = .ok (.getfield 25, 3) := dk_180 0 25 (dk_at dksX10_execute_1 13 rfl rfl)
theorem dX10_execute_40 : decode cX10_execute 40 = .ok (.aload_n 0, 1) := dk_42 (dk_at dksX10_execute_1 16 rfl rfl)
theorem dX10_execute_41 : decode cX10_execute 41 = .ok (.getfield 15, 3) := dk_180 0 15 (dk_at dksX10_execute_1 17 rfl rfl)
theorem dX10_execute_44 : decode cX10_execute 44 = .ok (.aload_n 0, 1) := dk_42 (dk_at dksX10_execute_1 20 rfl rfl)
theorem dX10_execute_45 : decode cX10_execute 45 = .ok (.getfield 19, 3) := dk_180 0 19 (dk_at dksX10_execute_1 21 rfl rfl)
theorem dX10_execute_48 : decode cX10_execute 48 = .ok (.invokevirtual 52, 3) := dk_182 0 52 (dk_at dksX10_execute_2 0 rfl rfl)
theorem dX10_execute_51 : decode cX10_execute 51 = .ok (.iconst 1, 1) := dk_4 (dk_at dksX10_execute_2 3 rfl rfl)
theorem dX10_execute_52 : decode cX10_execute 52 = .ok (.ireturn, 1) := dk_172 (dk_at dksX10_execute_2 4 rfl rfl)
abbrev cX10_property : ByteArray := prog_4_method_5_code
def yX10_property : MethodName := ⟨RX10, "property", "(I)I"⟩
def dkwX10_property_1 : List UInt8 := [27, 6, 160, 0, 10, 42, 180, 0, 22, 167, 0, 4, 3, 172]
abbrev dktX10_property_1 : List UInt8 := dkwX10_property_1 ++ []
def dkwX10_property_0 : List UInt8 := [27, 4, 160, 0, 10, 42, 180, 0, 15, 167, 0, 28, 27, 5, 160, 0, 10, 42, 180, 0, 19, 167, 0, 16]
abbrev dktX10_property_0 : List UInt8 := dkwX10_property_0 ++ dktX10_property_1
theorem dksX10_property_0 : cX10_property.data.toList.drop 0 = dktX10_property_0 := by decide +kernel
theorem dksX10_property_1 : cX10_property.data.toList.drop 24 = dktX10_property_1 := dk_seg dksX10_property_0 24 rfl rfl
theorem dX10_property_0 : decode cX10_property 0 = .ok (.iload_n 1, 1) := dk_27 (dk_at dksX10_property_0 0 rfl rfl)
theorem dX10_property_1 : decode cX10_property 1 = .ok (.iconst 1, 1) := dk_4 (dk_at dksX10_property_0 1 rfl rfl)
theorem dX10_property_2 : decode cX10_property 2 = .ok (.if_icmp .ne 10, 3) := dk_160 0 10 (dk_at dksX10_property_0 2 rfl rfl)
theorem dX10_property_5 : decode cX10_property 5 = .ok (.aload_n 0, 1) := dk_42 (dk_at dksX10_property_0 5 rfl rfl)
theorem dX10_property_6 : decode cX10_property 6 = .ok (.getfield 15, 3) := dk_180 0 15 (dk_at dksX10_property_0 6 rfl rfl)
theorem dX10_property_9 : decode cX10_property 9 = .ok (.goto 28, 3) := dk_167 0 28 (dk_at dksX10_property_0 9 rfl rfl)
theorem dX10_property_12 : decode cX10_property 12 = .ok (.iload_n 1, 1) := dk_27 (dk_at dksX10_property_0 12 rfl rfl)
theorem dX10_property_13 : decode cX10_property 13 = .ok (.iconst 2, 1) := dk_5 (dk_at dksX10_property_0 13 rfl rfl)
theorem dX10_property_14 : decode cX10_property 14 = .ok (.if_icmp .ne 10, 3) := dk_160 0 10 (dk_at dksX10_property_0 14 rfl rfl)
theorem dX10_property_17 : decode cX10_property 17 = .ok (.aload_n 0, 1) := dk_42 (dk_at dksX10_property_0 17 rfl rfl)
theorem dX10_property_18 : decode cX10_property 18 = .ok (.getfield 19, 3) := dk_180 0 19 (dk_at dksX10_property_0 18 rfl rfl)
theorem dX10_property_21 : decode cX10_property 21 = .ok (.goto 16, 3) := dk_167 0 16 (dk_at dksX10_property_0 21 rfl rfl)
theorem dX10_property_24 : decode cX10_property 24 = .ok (.iload_n 1, 1) := dk_27 (dk_at dksX10_property_1 0 rfl rfl)
theorem dX10_property_25 : decode cX10_property 25 = .ok (.iconst 3, 1) := dk_6 (dk_at dksX10_property_1 1 rfl rfl)
theorem dX10_property_26 : decode cX10_property 26 = .ok (.if_icmp .ne 10, 3) := dk_160 0 10 (dk_at dksX10_property_1 2 rfl rfl)
theorem dX10_property_29 : decode cX10_property 29 = .ok (.aload_n 0, 1) := dk_42 (dk_at dksX10_property_1 5 rfl rfl)
theorem dX10_property_30 : decode cX10_property 30 = .ok (.getfield 22, 3) := dk_180 0 22 (dk_at dksX10_property_1 6 rfl rfl)
theorem dX10_property_33 : decode cX10_property 33 = .ok (.goto 4, 3) := dk_167 0 4 (dk_at dksX10_property_1 9 rfl rfl)
theorem dX10_property_36 : decode cX10_property 36 = .ok (.iconst 0, 1) := dk_3 (dk_at dksX10_property_1 12 rfl rfl)
theorem dX10_property_37 : decode cX10_property 37 = .ok (.ireturn, 1) := dk_172 (dk_at dksX10_property_1 13 rfl rfl)
abbrev cX10_change : ByteArray := prog_4_method_2_code
def yX10_change : MethodName := ⟨RX10, "change", "(LStringTableau$Row;Z)V"⟩
def dkwX10_change_1 : List UInt8 := [180, 0, 15, 42, 180, 0, 19, 185, 0, 36, 4, 0, 177]
abbrev dktX10_change_1 : List UInt8 := dkwX10_change_1 ++ []
def dkwX10_change_0 : List UInt8 := [28, 153, 0, 13, 42, 180, 0, 25, 184, 0, 28, 167, 0, 7, 42, 180, 0, 25, 184, 0, 32, 43, 42]
abbrev dktX10_change_0 : List UInt8 := dkwX10_change_0 ++ dktX10_change_1
theorem dksX10_change_0 : cX10_change.data.toList.drop 0 = dktX10_change_0 := by decide +kernel
theorem dksX10_change_1 : cX10_change.data.toList.drop 23 = dktX10_change_1 := dk_seg dksX10_change_0 23 rfl rfl
theorem dX10_change_0 : decode cX10_change 0 = .ok (.iload_n 2, 1) := dk_28 (dk_at dksX10_change_0 0 rfl rfl)
theorem dX10_change_1 : decode cX10_change 1 = .ok (.ifCond .eq 13, 3) := dk_153 0 13 (dk_at dksX10_change_0 1 rfl rfl)
theorem dX10_change_4 : decode cX10_change 4 = .ok (.aload_n 0, 1) := dk_42 (dk_at dksX10_change_0 4 rfl rfl)
theorem dX10_change_5 : decode cX10_change 5 = .ok (.getfield 25, 3) := dk_180 0 25 (dk_at dksX10_change_0 5 rfl rfl)
theorem dX10_change_8 : decode cX10_change 8 = .ok (.invokestatic 28, 3) := dk_184 0 28 (dk_at dksX10_change_0 8 rfl rfl)
theorem dX10_change_11 : decode cX10_change 11 = .ok (.goto 7, 3) := dk_167 0 7 (dk_at dksX10_change_0 11 rfl rfl)
theorem dX10_change_14 : decode cX10_change 14 = .ok (.aload_n 0, 1) := dk_42 (dk_at dksX10_change_0 14 rfl rfl)
theorem dX10_change_15 : decode cX10_change 15 = .ok (.getfield 25, 3) := dk_180 0 25 (dk_at dksX10_change_0 15 rfl rfl)
theorem dX10_change_18 : decode cX10_change 18 = .ok (.invokestatic 32, 3) := dk_184 0 32 (dk_at dksX10_change_0 18 rfl rfl)
theorem dX10_change_21 : decode cX10_change 21 = .ok (.aload_n 1, 1) := dk_43 (dk_at dksX10_change_0 21 rfl rfl)
theorem dX10_change_22 : decode cX10_change 22 = .ok (.aload_n 0, 1) := dk_42 (dk_at dksX10_change_0 22 rfl rfl)
theorem dX10_change_23 : decode cX10_change 23 = .ok (.getfield 15, 3) := dk_180 0 15 (dk_at dksX10_change_1 0 rfl rfl)
theorem dX10_change_26 : decode cX10_change 26 = .ok (.aload_n 0, 1) := dk_42 (dk_at dksX10_change_1 3 rfl rfl)
theorem dX10_change_27 : decode cX10_change 27 = .ok (.getfield 19, 3) := dk_180 0 19 (dk_at dksX10_change_1 4 rfl rfl)
theorem dX10_change_30 : decode cX10_change 30 = .ok (.invokeinterface 36 4, 5) := by decide +kernel
theorem dX10_change_35 : decode cX10_change 35 = .ok (.return_, 1) := dk_177 (dk_at dksX10_change_1 12 rfl rfl)
theorem q150 : (Jvm.Cond.initialized "StringTableau$GateOperation") ∈ lw_all := lw_g (lw_at lw_m1 31 rfl) rfl
theorem q283 : (Jvm.Cond.fieldLinkNest "StringTableau$GateOperation" (46 : Nat) "StringTableau$State" "outcomes" "[I" "StringTableau") ∈ lw_tbl := lw_at lw_m1 164 rfl
theorem q345 : (Jvm.Cond.fieldLinkNest "StringTableau$GateOperation" (42 : Nat) "StringTableau" "state" "LStringTableau$State;" "StringTableau") ∈ lw_tbl := lw_at lw_m1 226 rfl
theorem q1001 : (Jvm.Cond.fieldLinkNest "StringTableau$GateOperation" (25 : Nat) "StringTableau$Operation" "kind" "I" "StringTableau") ∈ lw_tbl := lw_at lw_m4 162 rfl
theorem q1046 : (Jvm.Cond.selects "StringTableau$GateOperation" ({ cls := "java/lang/Object", name := "getClass", desc := "()Ljava/lang/Class;" } : Jvm.MethodName) ({ cls := "java/lang/Object", name := "getClass", desc := "()Ljava/lang/Class;" } : Jvm.MethodName)) ∈ lw_all := lw_g (lw_at lw_m4 207 rfl) rfl
theorem q1093 : (Jvm.Cond.instantiable "StringTableau$GateOperation" (6 : Nat)) ∈ lw_all := lw_g (lw_at lw_m5 14 rfl) rfl
theorem q1095 : (Jvm.Cond.instanceMethod ({ cls := "StringTableau$GateOperation", name := "<init>", desc := "(LStringTableau;IIII)V" } : Jvm.MethodName)) ∈ lw_all := lw_g (lw_at lw_m5 16 rfl) rfl
theorem q1096 : (Jvm.Cond.code ({ cls := "StringTableau$GateOperation", name := "<init>", desc := "(LStringTableau;IIII)V" } : Jvm.MethodName) prog_4_method_1_code (6 : Nat) (Option.none : Option Jvm.ClassFile.FieldType)) ∈ lw_all := lw_g (lw_at lw_m5 17 rfl) rfl
theorem q1097 : (Jvm.Cond.methodLink "StringTableau$GateOperation" (9 : Nat) ({ cls := "StringTableau$Operation", name := "<init>", desc := "(LStringTableau;I)V" } : Jvm.MethodName)) ∈ lw_all := lw_g (lw_at lw_m5 18 rfl) rfl
theorem q1098 : (Jvm.Cond.fieldLink "StringTableau$GateOperation" (15 : Nat) "StringTableau$GateOperation" "a" "I") ∈ lw_all := lw_g (lw_at lw_m5 19 rfl) rfl
theorem q1099 : (Jvm.Cond.fieldLink "StringTableau$GateOperation" (19 : Nat) "StringTableau$GateOperation" "b" "I") ∈ lw_all := lw_g (lw_at lw_m5 20 rfl) rfl
theorem q1100 : (Jvm.Cond.fieldLink "StringTableau$GateOperation" (22 : Nat) "StringTableau$GateOperation" "when" "I") ∈ lw_all := lw_g (lw_at lw_m5 21 rfl) rfl
theorem q1101 : (Jvm.Cond.fieldLink "StringTableau$GateOperation" (3 : Nat) "StringTableau$GateOperation" "this$0" "LStringTableau;") ∈ lw_all := lw_g (lw_at lw_m5 22 rfl) rfl
theorem q1102 : (Jvm.Cond.laysFinal "StringTableau$GateOperation" "StringTableau$GateOperation" "a" "I") ∈ lw_all := lw_g (lw_at lw_m5 23 rfl) rfl
theorem q1103 : (Jvm.Cond.soleField "StringTableau$GateOperation" "a") ∈ lw_all := lw_g (lw_at lw_m5 24 rfl) rfl
theorem q1104 : (Jvm.Cond.laysFinal "StringTableau$GateOperation" "StringTableau$GateOperation" "b" "I") ∈ lw_all := lw_g (lw_at lw_m5 25 rfl) rfl
theorem q1105 : (Jvm.Cond.soleField "StringTableau$GateOperation" "b") ∈ lw_all := lw_g (lw_at lw_m5 26 rfl) rfl
theorem q1106 : (Jvm.Cond.laysFinal "StringTableau$GateOperation" "StringTableau$GateOperation" "when" "I") ∈ lw_all := lw_g (lw_at lw_m5 27 rfl) rfl
theorem q1107 : (Jvm.Cond.soleField "StringTableau$GateOperation" "when") ∈ lw_all := lw_g (lw_at lw_m5 28 rfl) rfl
theorem q1108 : (Jvm.Cond.laysFinal "StringTableau$GateOperation" "StringTableau$GateOperation" "this$0" "LStringTableau;") ∈ lw_all := lw_g (lw_at lw_m5 29 rfl) rfl
theorem q1109 : (Jvm.Cond.soleField "StringTableau$GateOperation" "this$0") ∈ lw_all := lw_g (lw_at lw_m5 30 rfl) rfl
theorem q1110 : (Jvm.Cond.laysFinal "StringTableau$GateOperation" "StringTableau$Operation" "kind" "I") ∈ lw_all := lw_g (lw_at lw_m5 31 rfl) rfl
theorem q1111 : (Jvm.Cond.laysFinal "StringTableau$GateOperation" "StringTableau$Operation" "this$0" "LStringTableau;") ∈ lw_all := lw_g (lw_at lw_m5 32 rfl) rfl
theorem q1112 : (Jvm.Cond.superclass "StringTableau$GateOperation" "StringTableau$Operation") ∈ lw_all := lw_g (lw_at lw_m5 33 rfl) rfl
theorem q1184 : (Jvm.Cond.selects "StringTableau$GateOperation" ({ cls := "StringTableau$Operation", name := "isPossible", desc := "()Z" } : Jvm.MethodName) ({ cls := "StringTableau$GateOperation", name := "isPossible", desc := "()Z" } : Jvm.MethodName)) ∈ lw_all := lw_g (lw_at lw_m5 105 rfl) rfl
theorem q1185 : (Jvm.Cond.instanceMethod ({ cls := "StringTableau$GateOperation", name := "isPossible", desc := "()Z" } : Jvm.MethodName)) ∈ lw_all := lw_g (lw_at lw_m5 106 rfl) rfl
theorem q1186 : (Jvm.Cond.code ({ cls := "StringTableau$GateOperation", name := "isPossible", desc := "()Z" } : Jvm.MethodName) prog_4_method_3_code (1 : Nat) (Option.some Jvm.ClassFile.FieldType.boolean)) ∈ lw_all := lw_g (lw_at lw_m5 107 rfl) rfl
theorem q1465 : (Jvm.Cond.selects "StringTableau$GateOperation" ({ cls := "StringTableau$Operation", name := "execute", desc := "()Z" } : Jvm.MethodName) ({ cls := "StringTableau$GateOperation", name := "execute", desc := "()Z" } : Jvm.MethodName)) ∈ lw_all := lw_g (lw_at lw_m6 146 rfl) rfl
theorem q1466 : (Jvm.Cond.instanceMethod ({ cls := "StringTableau$GateOperation", name := "execute", desc := "()Z" } : Jvm.MethodName)) ∈ lw_all := lw_g (lw_at lw_m6 147 rfl) rfl
theorem q1467 : (Jvm.Cond.code ({ cls := "StringTableau$GateOperation", name := "execute", desc := "()Z" } : Jvm.MethodName) prog_4_method_4_code (1 : Nat) (Option.some Jvm.ClassFile.FieldType.boolean)) ∈ lw_all := lw_g (lw_at lw_m6 148 rfl) rfl
theorem q1468 : (Jvm.Cond.methodLink "StringTableau$GateOperation" (52 : Nat) ({ cls := "StringTableau$State", name := "gateOnTrail", desc := "(III)V" } : Jvm.MethodName)) ∈ lw_all := lw_g (lw_at lw_m6 149 rfl) rfl
theorem q1784 : (Jvm.Cond.selects "StringTableau$GateOperation" ({ cls := "StringTableau$Operation", name := "property", desc := "(I)I" } : Jvm.MethodName) ({ cls := "StringTableau$GateOperation", name := "property", desc := "(I)I" } : Jvm.MethodName)) ∈ lw_all := lw_g (lw_at lw_m7 225 rfl) rfl
theorem q1785 : (Jvm.Cond.instanceMethod ({ cls := "StringTableau$GateOperation", name := "property", desc := "(I)I" } : Jvm.MethodName)) ∈ lw_all := lw_g (lw_at lw_m7 226 rfl) rfl
theorem q1786 : (Jvm.Cond.code ({ cls := "StringTableau$GateOperation", name := "property", desc := "(I)I" } : Jvm.MethodName) prog_4_method_5_code (2 : Nat) (Option.some Jvm.ClassFile.FieldType.int)) ∈ lw_all := lw_g (lw_at lw_m7 227 rfl) rfl
theorem q2075 : (Jvm.Cond.instanceMethod ({ cls := "StringTableau$GateOperation", name := "change", desc := "(LStringTableau$Row;Z)V" } : Jvm.MethodName)) ∈ lw_all := lw_g (lw_at lw_m9 36 rfl) rfl
theorem q2076 : (Jvm.Cond.selects "StringTableau$GateOperation" ({ cls := "StringTableau$GateOperation", name := "change", desc := "(LStringTableau$Row;Z)V" } : Jvm.MethodName) ({ cls := "StringTableau$GateOperation", name := "change", desc := "(LStringTableau$Row;Z)V" } : Jvm.MethodName)) ∈ lw_all := lw_g (lw_at lw_m9 37 rfl) rfl
theorem q2077 : (Jvm.Cond.code ({ cls := "StringTableau$GateOperation", name := "change", desc := "(LStringTableau$Row;Z)V" } : Jvm.MethodName) prog_4_method_2_code (3 : Nat) (Option.none : Option Jvm.ClassFile.FieldType)) ∈ lw_all := lw_g (lw_at lw_m9 38 rfl) rfl
theorem q2078 : (Jvm.Cond.methodLinkNest "StringTableau$GateOperation" (28 : Nat) ({ cls := "StringTableau", name := "inverseOf", desc := "(I)I" } : Jvm.MethodName) "StringTableau") ∈ lw_tbl := lw_at lw_m9 39 rfl
theorem q2079 : (Jvm.Cond.methodLinkNest "StringTableau$GateOperation" (32 : Nat) ({ cls := "StringTableau", name := "gateOf", desc := "(I)LStringTableau$Gate;" } : Jvm.MethodName) "StringTableau") ∈ lw_tbl := lw_at lw_m9 40 rfl
theorem q2080 : (Jvm.Cond.interfaceEntry "StringTableau$GateOperation" (36 : Nat)) ∈ lw_tbl := lw_at lw_m9 41 rfl
theorem q2081 : (Jvm.Cond.methodLink "StringTableau$GateOperation" (36 : Nat) ({ cls := "StringTableau$Gate", name := "on", desc := "(LStringTableau$Row;II)V" } : Jvm.MethodName)) ∈ lw_all := lw_g (lw_at lw_m9 42 rfl) rfl
theorem q2248 : (Jvm.Cond.selects "StringTableau$GateOperation" ({ cls := "java/lang/Object", name := "hashCode", desc := "()I" } : Jvm.MethodName) ({ cls := "java/lang/Object", name := "hashCode", desc := "()I" } : Jvm.MethodName)) ∈ lw_all := lw_g (lw_at lw_m9 209 rfl) rfl
theorem q2605 : (Jvm.Cond.selects "StringTableau$GateOperation" ({ cls := "java/lang/Object", name := "equals", desc := "(Ljava/lang/Object;)Z" } : Jvm.MethodName) ({ cls := "java/lang/Object", name := "equals", desc := "(Ljava/lang/Object;)Z" } : Jvm.MethodName)) ∈ lw_all := lw_g (lw_at lw_m11 86 rfl) rfl
theorem q3544 : (Jvm.Cond.castable "StringTableau$GateOperation" "StringTableau$Operation") ∈ lw_tbl := lw_at lw_m15 65 rfl
theorem q3562 : (Jvm.Cond.castable "StringTableau$GateOperation" "java/lang/Object") ∈ lw_tbl := lw_at lw_m15 83 rfl
theorem in_X10 : ∀ w ∈ wsX100, w ∈ lw_all := lw_in wsX100 [1110, 1111, 1102, 1104, 1106, 1108] (by decide +kernel) (by decide +kernel)

/-! StringTableau$Record -/
set_option maxRecDepth 100000
def RX11 : String := "StringTableau$Record"
def TX11 : u_T := fun k => match k with
  | 0 => ("StringTableau$Record", "outcome", "I", true)
  | _ => ("StringTableau$Record", "random", "Z", true)
def tyX11 : Nat → FieldType := fun k => match k with
  | 0 => .int
  | _ => .boolean
abbrev wsX110 : List Cond := u_ws RX11 TX11 2
theorem nmX11 : ∀ a, a < 2 → ∀ b, b < 2 → a ≠ b → (TX11 a).2.1 ≠ (TX11 b).2.1 := by decide +kernel
theorem tyX11_ok : ∀ k, k < 2 → parseFieldDescriptor (TX11 k).2.2.1 = some (tyX11 k) := by decide +kernel
abbrev cX11_init : ByteArray := prog_9_method_1_code
def yX11_init : MethodName := ⟨RX11, "<init>", "(IZ)V"⟩
def dkwX11_init_0 : List UInt8 := [42, 183, 0, 1, 42, 27, 181, 0, 7, 42, 28, 181, 0, 13, 177]
abbrev dktX11_init_0 : List UInt8 := dkwX11_init_0 ++ []
theorem dksX11_init_0 : cX11_init.data.toList.drop 0 = dktX11_init_0 := by decide +kernel
theorem dX11_init_0 : decode cX11_init 0 = .ok (.aload_n 0, 1) := dk_42 (dk_at dksX11_init_0 0 rfl rfl)
theorem dX11_init_1 : decode cX11_init 1 = .ok (.invokespecial 1, 3) := dk_183 0 1 (dk_at dksX11_init_0 1 rfl rfl)
theorem dX11_init_4 : decode cX11_init 4 = .ok (.aload_n 0, 1) := dk_42 (dk_at dksX11_init_0 4 rfl rfl)
theorem dX11_init_5 : decode cX11_init 5 = .ok (.iload_n 1, 1) := dk_27 (dk_at dksX11_init_0 5 rfl rfl)
theorem dX11_init_6 : decode cX11_init 6 = .ok (.putfield 7, 3) := dk_181 0 7 (dk_at dksX11_init_0 6 rfl rfl)
theorem dX11_init_9 : decode cX11_init 9 = .ok (.aload_n 0, 1) := dk_42 (dk_at dksX11_init_0 9 rfl rfl)
theorem dX11_init_10 : decode cX11_init 10 = .ok (.iload_n 2, 1) := dk_28 (dk_at dksX11_init_0 10 rfl rfl)
theorem dX11_init_11 : decode cX11_init 11 = .ok (.putfield 13, 3) := dk_181 0 13 (dk_at dksX11_init_0 11 rfl rfl)
theorem dX11_init_14 : decode cX11_init 14 = .ok (.return_, 1) := dk_177 (dk_at dksX11_init_0 14 rfl rfl)
theorem q157 : (Jvm.Cond.initialized "StringTableau$Record") ∈ lw_all := lw_g (lw_at lw_m1 38 rfl) rfl
theorem q1050 : (Jvm.Cond.selects "StringTableau$Record" ({ cls := "java/lang/Object", name := "getClass", desc := "()Ljava/lang/Class;" } : Jvm.MethodName) ({ cls := "java/lang/Object", name := "getClass", desc := "()Ljava/lang/Class;" } : Jvm.MethodName)) ∈ lw_all := lw_g (lw_at lw_m4 211 rfl) rfl
theorem q1577 : (Jvm.Cond.instantiable "StringTableau$Record" (2 : Nat)) ∈ lw_all := lw_g (lw_at lw_m7 18 rfl) rfl
theorem q1579 : (Jvm.Cond.instanceMethod ({ cls := "StringTableau$Record", name := "<init>", desc := "(IZ)V" } : Jvm.MethodName)) ∈ lw_all := lw_g (lw_at lw_m7 20 rfl) rfl
theorem q1580 : (Jvm.Cond.code ({ cls := "StringTableau$Record", name := "<init>", desc := "(IZ)V" } : Jvm.MethodName) prog_9_method_1_code (3 : Nat) (Option.none : Option Jvm.ClassFile.FieldType)) ∈ lw_all := lw_g (lw_at lw_m7 21 rfl) rfl
theorem q1581 : (Jvm.Cond.methodLink "StringTableau$Record" (1 : Nat) ({ cls := "java/lang/Object", name := "<init>", desc := "()V" } : Jvm.MethodName)) ∈ lw_all := lw_g (lw_at lw_m7 22 rfl) rfl
theorem q1582 : (Jvm.Cond.fieldLink "StringTableau$Record" (7 : Nat) "StringTableau$Record" "outcome" "I") ∈ lw_all := lw_g (lw_at lw_m7 23 rfl) rfl
theorem q1584 : (Jvm.Cond.fieldLink "StringTableau$Record" (13 : Nat) "StringTableau$Record" "random" "Z") ∈ lw_all := lw_g (lw_at lw_m7 25 rfl) rfl
theorem q1586 : (Jvm.Cond.laysFinal "StringTableau$Record" "StringTableau$Record" "outcome" "I") ∈ lw_all := lw_g (lw_at lw_m7 27 rfl) rfl
theorem q1587 : (Jvm.Cond.soleField "StringTableau$Record" "outcome") ∈ lw_all := lw_g (lw_at lw_m7 28 rfl) rfl
theorem q1588 : (Jvm.Cond.laysFinal "StringTableau$Record" "StringTableau$Record" "random" "Z") ∈ lw_all := lw_g (lw_at lw_m7 29 rfl) rfl
theorem q1589 : (Jvm.Cond.soleField "StringTableau$Record" "random") ∈ lw_all := lw_g (lw_at lw_m7 30 rfl) rfl
theorem q1590 : (Jvm.Cond.superclass "StringTableau$Record" "java/lang/Object") ∈ lw_all := lw_g (lw_at lw_m7 31 rfl) rfl
theorem q2252 : (Jvm.Cond.selects "StringTableau$Record" ({ cls := "java/lang/Object", name := "hashCode", desc := "()I" } : Jvm.MethodName) ({ cls := "java/lang/Object", name := "hashCode", desc := "()I" } : Jvm.MethodName)) ∈ lw_all := lw_g (lw_at lw_m9 213 rfl) rfl
theorem q2609 : (Jvm.Cond.selects "StringTableau$Record" ({ cls := "java/lang/Object", name := "equals", desc := "(Ljava/lang/Object;)Z" } : Jvm.MethodName) ({ cls := "java/lang/Object", name := "equals", desc := "(Ljava/lang/Object;)Z" } : Jvm.MethodName)) ∈ lw_all := lw_g (lw_at lw_m11 90 rfl) rfl
theorem q3567 : (Jvm.Cond.castable "StringTableau$Record" "java/lang/Object") ∈ lw_tbl := lw_at lw_m15 88 rfl
theorem in_X11 : ∀ w ∈ wsX110, w ∈ lw_all := lw_in wsX110 [1586, 1588] (by decide +kernel) (by decide +kernel)

/-! StringTableau$Tableau$1 -/
set_option maxRecDepth 100000
def RX12 : String := "StringTableau$Tableau$1"
def TX12 : u_T := fun k => match k with
  | 0 => ("StringTableau$Tableau$1", "set", "I", false)
  | _ => ("StringTableau$Tableau$1", "this$0", "LStringTableau$Tableau;", true)
def tyX12 : Nat → FieldType := fun k => match k with
  | 0 => .int
  | _ => .object "StringTableau$Tableau"
abbrev wsX120 : List Cond := u_ws RX12 TX12 2
theorem nmX12 : ∀ a, a < 2 → ∀ b, b < 2 → a ≠ b → (TX12 a).2.1 ≠ (TX12 b).2.1 := by decide +kernel
theorem tyX12_ok : ∀ k, k < 2 → parseFieldDescriptor (TX12 k).2.2.1 = some (tyX12 k) := by decide +kernel
abbrev cX12_hasNext : ByteArray := prog_13_method_2_code
def yX12_hasNext : MethodName := ⟨RX12, "hasNext", "()Z"⟩
def dkwX12_hasNext_0 : List UInt8 := [42, 180, 0, 13, 4, 42, 180, 0, 1, 180, 0, 17, 190, 120, 162, 0, 7, 4, 167, 0, 4, 3, 172]
abbrev dktX12_hasNext_0 : List UInt8 := dkwX12_hasNext_0 ++ []
theorem dksX12_hasNext_0 : cX12_hasNext.data.toList.drop 0 = dktX12_hasNext_0 := by decide +kernel
theorem dX12_hasNext_0 : decode cX12_hasNext 0 = .ok (.aload_n 0, 1) := dk_42 (dk_at dksX12_hasNext_0 0 rfl rfl)
theorem dX12_hasNext_1 : decode cX12_hasNext 1 = .ok (.getfield 13, 3) := dk_180 0 13 (dk_at dksX12_hasNext_0 1 rfl rfl)
theorem dX12_hasNext_4 : decode cX12_hasNext 4 = .ok (.iconst 1, 1) := dk_4 (dk_at dksX12_hasNext_0 4 rfl rfl)
theorem dX12_hasNext_5 : decode cX12_hasNext 5 = .ok (.aload_n 0, 1) := dk_42 (dk_at dksX12_hasNext_0 5 rfl rfl)
theorem dX12_hasNext_6 : decode cX12_hasNext 6 = .ok (.getfield 1, 3) := dk_180 0 1 (dk_at dksX12_hasNext_0 6 rfl rfl)
theorem dX12_hasNext_9 : decode cX12_hasNext 9 = .ok (.getfield 17, 3) := dk_180 0 17 (dk_at dksX12_hasNext_0 9 rfl rfl)
theorem dX12_hasNext_12 : decode cX12_hasNext 12 = .ok (.arraylength, 1) := dk_190 (dk_at dksX12_hasNext_0 12 rfl rfl)
theorem dX12_hasNext_13 : decode cX12_hasNext 13 = .ok (.ishl, 1) := dk_120 (dk_at dksX12_hasNext_0 13 rfl rfl)
theorem dX12_hasNext_14 : decode cX12_hasNext 14 = .ok (.if_icmp .ge 7, 3) := dk_162 0 7 (dk_at dksX12_hasNext_0 14 rfl rfl)
theorem dX12_hasNext_17 : decode cX12_hasNext 17 = .ok (.iconst 1, 1) := dk_4 (dk_at dksX12_hasNext_0 17 rfl rfl)
theorem dX12_hasNext_18 : decode cX12_hasNext 18 = .ok (.goto 4, 3) := dk_167 0 4 (dk_at dksX12_hasNext_0 18 rfl rfl)
theorem dX12_hasNext_21 : decode cX12_hasNext 21 = .ok (.iconst 0, 1) := dk_3 (dk_at dksX12_hasNext_0 21 rfl rfl)
theorem dX12_hasNext_22 : decode cX12_hasNext 22 = .ok (.ireturn, 1) := dk_172 (dk_at dksX12_hasNext_0 22 rfl rfl)
abbrev cX12_next : ByteArray := prog_13_method_4_code
def yX12_next : MethodName := ⟨RX12, "next", "()Ljava/lang/Object;"⟩
theorem dX12_next_0 : decode cX12_next 0 = .ok (.aload_n 0, 1) := by decide +kernel
theorem dX12_next_1 : decode cX12_next 1 = .ok (.invokevirtual 34, 3) := by decide +kernel
theorem dX12_next_4 : decode cX12_next 4 = .ok (.areturn, 1) := by decide +kernel
abbrev cX12_next_2 : ByteArray := prog_13_method_3_code
def yX12_next_2 : MethodName := ⟨RX12, "next", "()LStringTableau$Row;"⟩
def dkwX12_next_2_1 : List UInt8 := [182, 0, 30, 76, 42, 89, 180, 0, 13, 4, 96, 181, 0, 13, 43, 176]
abbrev dktX12_next_2_1 : List UInt8 := dkwX12_next_2_1 ++ []
def dkwX12_next_2_0 : List UInt8 := [42, 182, 0, 23, 154, 0, 11, 187, 0, 27, 89, 183, 0, 29, 191, 42, 180, 0, 1, 42, 180, 0, 13]
abbrev dktX12_next_2_0 : List UInt8 := dkwX12_next_2_0 ++ dktX12_next_2_1
theorem dksX12_next_2_0 : cX12_next_2.data.toList.drop 0 = dktX12_next_2_0 := by decide +kernel
theorem dksX12_next_2_1 : cX12_next_2.data.toList.drop 23 = dktX12_next_2_1 := dk_seg dksX12_next_2_0 23 rfl rfl
theorem dX12_next_2_0 : decode cX12_next_2 0 = .ok (.aload_n 0, 1) := dk_42 (dk_at dksX12_next_2_0 0 rfl rfl)
theorem dX12_next_2_1 : decode cX12_next_2 1 = .ok (.invokevirtual 23, 3) := dk_182 0 23 (dk_at dksX12_next_2_0 1 rfl rfl)
theorem dX12_next_2_4 : decode cX12_next_2 4 = .ok (.ifCond .ne 11, 3) := dk_154 0 11 (dk_at dksX12_next_2_0 4 rfl rfl)
theorem dX12_next_2_7 : decode cX12_next_2 7 = .ok (.new 27, 3) := dk_187 0 27 (dk_at dksX12_next_2_0 7 rfl rfl)
theorem dX12_next_2_10 : decode cX12_next_2 10 = .ok (.dup, 1) := dk_89 (dk_at dksX12_next_2_0 10 rfl rfl)
theorem dX12_next_2_11 : decode cX12_next_2 11 = .ok (.invokespecial 29, 3) := dk_183 0 29 (dk_at dksX12_next_2_0 11 rfl rfl)
theorem dX12_next_2_14 : decode cX12_next_2 14 = .ok (.athrow, 1) := dk_191 (dk_at dksX12_next_2_0 14 rfl rfl)
theorem dX12_next_2_15 : decode cX12_next_2 15 = .ok (.aload_n 0, 1) := dk_42 (dk_at dksX12_next_2_0 15 rfl rfl)
theorem dX12_next_2_16 : decode cX12_next_2 16 = .ok (.getfield 1, 3) := dk_180 0 1 (dk_at dksX12_next_2_0 16 rfl rfl)
theorem dX12_next_2_19 : decode cX12_next_2 19 = .ok (.aload_n 0, 1) := dk_42 (dk_at dksX12_next_2_0 19 rfl rfl)
theorem dX12_next_2_20 : decode cX12_next_2 20 = .ok (.getfield 13, 3) := dk_180 0 13 (dk_at dksX12_next_2_0 20 rfl rfl)
theorem dX12_next_2_23 : decode cX12_next_2 23 = .ok (.invokevirtual 30, 3) := dk_182 0 30 (dk_at dksX12_next_2_1 0 rfl rfl)
theorem dX12_next_2_26 : decode cX12_next_2 26 = .ok (.astore_n 1, 1) := dk_76 (dk_at dksX12_next_2_1 3 rfl rfl)
theorem dX12_next_2_27 : decode cX12_next_2 27 = .ok (.aload_n 0, 1) := dk_42 (dk_at dksX12_next_2_1 4 rfl rfl)
theorem dX12_next_2_28 : decode cX12_next_2 28 = .ok (.dup, 1) := dk_89 (dk_at dksX12_next_2_1 5 rfl rfl)
theorem dX12_next_2_29 : decode cX12_next_2 29 = .ok (.getfield 13, 3) := dk_180 0 13 (dk_at dksX12_next_2_1 6 rfl rfl)
theorem dX12_next_2_32 : decode cX12_next_2 32 = .ok (.iconst 1, 1) := dk_4 (dk_at dksX12_next_2_1 9 rfl rfl)
theorem dX12_next_2_33 : decode cX12_next_2 33 = .ok (.iadd, 1) := dk_96 (dk_at dksX12_next_2_1 10 rfl rfl)
theorem dX12_next_2_34 : decode cX12_next_2 34 = .ok (.putfield 13, 3) := dk_181 0 13 (dk_at dksX12_next_2_1 11 rfl rfl)
theorem dX12_next_2_37 : decode cX12_next_2 37 = .ok (.aload_n 1, 1) := dk_43 (dk_at dksX12_next_2_1 14 rfl rfl)
theorem dX12_next_2_38 : decode cX12_next_2 38 = .ok (.areturn, 1) := dk_176 (dk_at dksX12_next_2_1 15 rfl rfl)
abbrev cX12_init : ByteArray := prog_13_method_1_code
def yX12_init : MethodName := ⟨RX12, "<init>", "(LStringTableau$Tableau;)V"⟩
def dkwX12_init_0 : List UInt8 := [42, 43, 181, 0, 1, 42, 183, 0, 7, 177]
abbrev dktX12_init_0 : List UInt8 := dkwX12_init_0 ++ []
theorem dksX12_init_0 : cX12_init.data.toList.drop 0 = dktX12_init_0 := by decide +kernel
theorem dX12_init_0 : decode cX12_init 0 = .ok (.aload_n 0, 1) := dk_42 (dk_at dksX12_init_0 0 rfl rfl)
theorem dX12_init_1 : decode cX12_init 1 = .ok (.aload_n 1, 1) := dk_43 (dk_at dksX12_init_0 1 rfl rfl)
theorem dX12_init_2 : decode cX12_init 2 = .ok (.putfield 1, 3) := dk_181 0 1 (dk_at dksX12_init_0 2 rfl rfl)
theorem dX12_init_5 : decode cX12_init 5 = .ok (.aload_n 0, 1) := dk_42 (dk_at dksX12_init_0 5 rfl rfl)
theorem dX12_init_6 : decode cX12_init 6 = .ok (.invokespecial 7, 3) := dk_183 0 7 (dk_at dksX12_init_0 6 rfl rfl)
theorem dX12_init_9 : decode cX12_init 9 = .ok (.return_, 1) := dk_177 (dk_at dksX12_init_0 9 rfl rfl)
theorem q158 : (Jvm.Cond.initialized "StringTableau$Tableau$1") ∈ lw_all := lw_g (lw_at lw_m1 39 rfl) rfl
theorem q270 : (Jvm.Cond.fieldLinkNest "StringTableau$Tableau$1" (17 : Nat) "StringTableau$Tableau" "rows" "[LStringTableau$Row;" "StringTableau") ∈ lw_tbl := lw_at lw_m1 151 rfl
theorem q1054 : (Jvm.Cond.selects "StringTableau$Tableau$1" ({ cls := "java/lang/Object", name := "getClass", desc := "()Ljava/lang/Class;" } : Jvm.MethodName) ({ cls := "java/lang/Object", name := "getClass", desc := "()Ljava/lang/Class;" } : Jvm.MethodName)) ∈ lw_all := lw_g (lw_at lw_m4 215 rfl) rfl
theorem q1398 : (Jvm.Cond.castable "StringTableau$Tableau$1" "java/util/Iterator") ∈ lw_tbl := lw_at lw_m6 79 rfl
theorem q1399 : (Jvm.Cond.selects "StringTableau$Tableau$1" ({ cls := "java/util/Iterator", name := "hasNext", desc := "()Z" } : Jvm.MethodName) ({ cls := "StringTableau$Tableau$1", name := "hasNext", desc := "()Z" } : Jvm.MethodName)) ∈ lw_all := lw_g (lw_at lw_m6 80 rfl) rfl
theorem q1400 : (Jvm.Cond.unhidden "StringTableau$Tableau$1" "hasNext" "()Z") ∈ lw_tbl := lw_at lw_m6 81 rfl
theorem q1401 : (Jvm.Cond.instanceMethod ({ cls := "StringTableau$Tableau$1", name := "hasNext", desc := "()Z" } : Jvm.MethodName)) ∈ lw_all := lw_g (lw_at lw_m6 82 rfl) rfl
theorem q1402 : (Jvm.Cond.publicMethod ({ cls := "StringTableau$Tableau$1", name := "hasNext", desc := "()Z" } : Jvm.MethodName)) ∈ lw_tbl := lw_at lw_m6 83 rfl
theorem q1403 : (Jvm.Cond.code ({ cls := "StringTableau$Tableau$1", name := "hasNext", desc := "()Z" } : Jvm.MethodName) prog_13_method_2_code (1 : Nat) (Option.some Jvm.ClassFile.FieldType.boolean)) ∈ lw_all := lw_g (lw_at lw_m6 84 rfl) rfl
theorem q1414 : (Jvm.Cond.selects "StringTableau$Tableau$1" ({ cls := "java/util/Iterator", name := "next", desc := "()Ljava/lang/Object;" } : Jvm.MethodName) ({ cls := "StringTableau$Tableau$1", name := "next", desc := "()Ljava/lang/Object;" } : Jvm.MethodName)) ∈ lw_all := lw_g (lw_at lw_m6 95 rfl) rfl
theorem q1415 : (Jvm.Cond.unhidden "StringTableau$Tableau$1" "next" "()Ljava/lang/Object;") ∈ lw_tbl := lw_at lw_m6 96 rfl
theorem q1416 : (Jvm.Cond.instanceMethod ({ cls := "StringTableau$Tableau$1", name := "next", desc := "()Ljava/lang/Object;" } : Jvm.MethodName)) ∈ lw_all := lw_g (lw_at lw_m6 97 rfl) rfl
theorem q1417 : (Jvm.Cond.publicMethod ({ cls := "StringTableau$Tableau$1", name := "next", desc := "()Ljava/lang/Object;" } : Jvm.MethodName)) ∈ lw_tbl := lw_at lw_m6 98 rfl
theorem q1418 : (Jvm.Cond.code ({ cls := "StringTableau$Tableau$1", name := "next", desc := "()Ljava/lang/Object;" } : Jvm.MethodName) prog_13_method_4_code (1 : Nat) (Option.some (Jvm.ClassFile.FieldType.object "java/lang/Object"))) ∈ lw_all := lw_g (lw_at lw_m6 99 rfl) rfl
theorem q1419 : (Jvm.Cond.methodLink "StringTableau$Tableau$1" (34 : Nat) ({ cls := "StringTableau$Tableau$1", name := "next", desc := "()LStringTableau$Row;" } : Jvm.MethodName)) ∈ lw_all := lw_g (lw_at lw_m6 100 rfl) rfl
theorem q1420 : (Jvm.Cond.instanceMethod ({ cls := "StringTableau$Tableau$1", name := "next", desc := "()LStringTableau$Row;" } : Jvm.MethodName)) ∈ lw_all := lw_g (lw_at lw_m6 101 rfl) rfl
theorem q1421 : (Jvm.Cond.selects "StringTableau$Tableau$1" ({ cls := "StringTableau$Tableau$1", name := "next", desc := "()LStringTableau$Row;" } : Jvm.MethodName) ({ cls := "StringTableau$Tableau$1", name := "next", desc := "()LStringTableau$Row;" } : Jvm.MethodName)) ∈ lw_all := lw_g (lw_at lw_m6 102 rfl) rfl
theorem q1422 : (Jvm.Cond.code ({ cls := "StringTableau$Tableau$1", name := "next", desc := "()LStringTableau$Row;" } : Jvm.MethodName) prog_13_method_3_code (2 : Nat) (Option.some (Jvm.ClassFile.FieldType.object "StringTableau$Row"))) ∈ lw_all := lw_g (lw_at lw_m6 103 rfl) rfl
theorem q1423 : (Jvm.Cond.methodLink "StringTableau$Tableau$1" (23 : Nat) ({ cls := "StringTableau$Tableau$1", name := "hasNext", desc := "()Z" } : Jvm.MethodName)) ∈ lw_all := lw_g (lw_at lw_m6 104 rfl) rfl
theorem q1424 : (Jvm.Cond.classLink "StringTableau$Tableau$1" (27 : Nat) "java/util/NoSuchElementException") ∈ lw_all := lw_g (lw_at lw_m6 105 rfl) rfl
theorem q1433 : (Jvm.Cond.methodLink "StringTableau$Tableau$1" (29 : Nat) ({ cls := "java/util/NoSuchElementException", name := "<init>", desc := "()V" } : Jvm.MethodName)) ∈ lw_all := lw_g (lw_at lw_m6 114 rfl) rfl
theorem q1445 : (Jvm.Cond.methodLink "StringTableau$Tableau$1" (30 : Nat) ({ cls := "StringTableau$Tableau", name := "element", desc := "(I)LStringTableau$Row;" } : Jvm.MethodName)) ∈ lw_all := lw_g (lw_at lw_m6 126 rfl) rfl
theorem q1642 : (Jvm.Cond.instantiable "StringTableau$Tableau$1" (2 : Nat)) ∈ lw_all := lw_g (lw_at lw_m7 83 rfl) rfl
theorem q1644 : (Jvm.Cond.instanceMethod ({ cls := "StringTableau$Tableau$1", name := "<init>", desc := "(LStringTableau$Tableau;)V" } : Jvm.MethodName)) ∈ lw_all := lw_g (lw_at lw_m7 85 rfl) rfl
theorem q1645 : (Jvm.Cond.code ({ cls := "StringTableau$Tableau$1", name := "<init>", desc := "(LStringTableau$Tableau;)V" } : Jvm.MethodName) prog_13_method_1_code (2 : Nat) (Option.none : Option Jvm.ClassFile.FieldType)) ∈ lw_all := lw_g (lw_at lw_m7 86 rfl) rfl
theorem q1646 : (Jvm.Cond.methodLink "StringTableau$Tableau$1" (7 : Nat) ({ cls := "java/lang/Object", name := "<init>", desc := "()V" } : Jvm.MethodName)) ∈ lw_all := lw_g (lw_at lw_m7 87 rfl) rfl
theorem q1647 : (Jvm.Cond.fieldLink "StringTableau$Tableau$1" (13 : Nat) "StringTableau$Tableau$1" "set" "I") ∈ lw_all := lw_g (lw_at lw_m7 88 rfl) rfl
theorem q1648 : (Jvm.Cond.fieldLink "StringTableau$Tableau$1" (1 : Nat) "StringTableau$Tableau$1" "this$0" "LStringTableau$Tableau;") ∈ lw_all := lw_g (lw_at lw_m7 89 rfl) rfl
theorem q1649 : (Jvm.Cond.lays "StringTableau$Tableau$1" "StringTableau$Tableau$1" "set" "I") ∈ lw_all := lw_g (lw_at lw_m7 90 rfl) rfl
theorem q1650 : (Jvm.Cond.soleField "StringTableau$Tableau$1" "set") ∈ lw_all := lw_g (lw_at lw_m7 91 rfl) rfl
theorem q1651 : (Jvm.Cond.laysFinal "StringTableau$Tableau$1" "StringTableau$Tableau$1" "this$0" "LStringTableau$Tableau;") ∈ lw_all := lw_g (lw_at lw_m7 92 rfl) rfl
theorem q1652 : (Jvm.Cond.soleField "StringTableau$Tableau$1" "this$0") ∈ lw_all := lw_g (lw_at lw_m7 93 rfl) rfl
theorem q1653 : (Jvm.Cond.superclass "StringTableau$Tableau$1" "java/lang/Object") ∈ lw_all := lw_g (lw_at lw_m7 94 rfl) rfl
theorem q2256 : (Jvm.Cond.selects "StringTableau$Tableau$1" ({ cls := "java/lang/Object", name := "hashCode", desc := "()I" } : Jvm.MethodName) ({ cls := "java/lang/Object", name := "hashCode", desc := "()I" } : Jvm.MethodName)) ∈ lw_all := lw_g (lw_at lw_m9 217 rfl) rfl
theorem q2613 : (Jvm.Cond.selects "StringTableau$Tableau$1" ({ cls := "java/lang/Object", name := "equals", desc := "(Ljava/lang/Object;)Z" } : Jvm.MethodName) ({ cls := "java/lang/Object", name := "equals", desc := "(Ljava/lang/Object;)Z" } : Jvm.MethodName)) ∈ lw_all := lw_g (lw_at lw_m11 94 rfl) rfl
theorem q3533 : (Jvm.Cond.selects "StringTableau$Tableau$1" ({ cls := "StringTableau$Tableau$1", name := "hasNext", desc := "()Z" } : Jvm.MethodName) ({ cls := "StringTableau$Tableau$1", name := "hasNext", desc := "()Z" } : Jvm.MethodName)) ∈ lw_all := lw_g (lw_at lw_m15 54 rfl) rfl
theorem q3568 : (Jvm.Cond.castable "StringTableau$Tableau$1" "java/lang/Object") ∈ lw_tbl := lw_at lw_m15 89 rfl
theorem in_X12 : ∀ w ∈ wsX120, w ∈ lw_all := lw_in wsX120 [1649, 1651] (by decide +kernel) (by decide +kernel)

/-! StringTableau$Word -/
set_option maxRecDepth 100000
def RX13 : String := "StringTableau$Word"
def TX13 : u_T := fun k => match k with
  | 0 => ("StringTableau$Word", "x", "I", true)
  | _ => ("StringTableau$Word", "z", "I", true)
def tyX13 : Nat → FieldType := fun k => match k with
  | 0 => .int
  | _ => .int
abbrev wsX130 : List Cond := u_ws RX13 TX13 2
theorem nmX13 : ∀ a, a < 2 → ∀ b, b < 2 → a ≠ b → (TX13 a).2.1 ≠ (TX13 b).2.1 := by decide +kernel
theorem tyX13_ok : ∀ k, k < 2 → parseFieldDescriptor (TX13 k).2.2.1 = some (tyX13 k) := by decide +kernel
abbrev cX13_init : ByteArray := prog_14_method_1_code
def yX13_init : MethodName := ⟨RX13, "<init>", "(II)V"⟩
def dkwX13_init_0 : List UInt8 := [42, 183, 0, 3, 42, 27, 181, 0, 9, 42, 28, 181, 0, 15, 177]
abbrev dktX13_init_0 : List UInt8 := dkwX13_init_0 ++ []
theorem dksX13_init_0 : cX13_init.data.toList.drop 0 = dktX13_init_0 := by decide +kernel
theorem dX13_init_0 : decode cX13_init 0 = .ok (.aload_n 0, 1) := dk_42 (dk_at dksX13_init_0 0 rfl rfl)
theorem dX13_init_1 : decode cX13_init 1 = .ok (.invokespecial 3, 3) := dk_183 0 3 (dk_at dksX13_init_0 1 rfl rfl)
theorem dX13_init_4 : decode cX13_init 4 = .ok (.aload_n 0, 1) := dk_42 (dk_at dksX13_init_0 4 rfl rfl)
theorem dX13_init_5 : decode cX13_init 5 = .ok (.iload_n 1, 1) := dk_27 (dk_at dksX13_init_0 5 rfl rfl)
theorem dX13_init_6 : decode cX13_init 6 = .ok (.putfield 9, 3) := dk_181 0 9 (dk_at dksX13_init_0 6 rfl rfl)
theorem dX13_init_9 : decode cX13_init 9 = .ok (.aload_n 0, 1) := dk_42 (dk_at dksX13_init_0 9 rfl rfl)
theorem dX13_init_10 : decode cX13_init 10 = .ok (.iload_n 2, 1) := dk_28 (dk_at dksX13_init_0 10 rfl rfl)
theorem dX13_init_11 : decode cX13_init 11 = .ok (.putfield 15, 3) := dk_181 0 15 (dk_at dksX13_init_0 11 rfl rfl)
theorem dX13_init_14 : decode cX13_init 14 = .ok (.return_, 1) := dk_177 (dk_at dksX13_init_0 14 rfl rfl)
abbrev cX13_hashCode : ByteArray := prog_14_method_3_code
def yX13_hashCode : MethodName := ⟨RX13, "hashCode", "()I"⟩
def dkwX13_hashCode_0 : List UInt8 := [42, 180, 0, 9, 16, 8, 120, 42, 180, 0, 15, 128, 172]
abbrev dktX13_hashCode_0 : List UInt8 := dkwX13_hashCode_0 ++ []
theorem dksX13_hashCode_0 : cX13_hashCode.data.toList.drop 0 = dktX13_hashCode_0 := by decide +kernel
theorem dX13_hashCode_0 : decode cX13_hashCode 0 = .ok (.aload_n 0, 1) := dk_42 (dk_at dksX13_hashCode_0 0 rfl rfl)
theorem dX13_hashCode_1 : decode cX13_hashCode 1 = .ok (.getfield 9, 3) := dk_180 0 9 (dk_at dksX13_hashCode_0 1 rfl rfl)
theorem dX13_hashCode_4 : decode cX13_hashCode 4 = .ok (.bipush 8, 2) := dk_16 8 (dk_at dksX13_hashCode_0 4 rfl rfl)
theorem dX13_hashCode_6 : decode cX13_hashCode 6 = .ok (.ishl, 1) := dk_120 (dk_at dksX13_hashCode_0 6 rfl rfl)
theorem dX13_hashCode_7 : decode cX13_hashCode 7 = .ok (.aload_n 0, 1) := dk_42 (dk_at dksX13_hashCode_0 7 rfl rfl)
theorem dX13_hashCode_8 : decode cX13_hashCode 8 = .ok (.getfield 15, 3) := dk_180 0 15 (dk_at dksX13_hashCode_0 8 rfl rfl)
theorem dX13_hashCode_11 : decode cX13_hashCode 11 = .ok (.ior, 1) := dk_128 (dk_at dksX13_hashCode_0 11 rfl rfl)
theorem dX13_hashCode_12 : decode cX13_hashCode 12 = .ok (.ireturn, 1) := dk_172 (dk_at dksX13_hashCode_0 12 rfl rfl)
abbrev cX13_equals : ByteArray := prog_14_method_2_code
def yX13_equals : MethodName := ⟨RX13, "equals", "(Ljava/lang/Object;)Z"⟩
def dkwX13_equals_1 : List UInt8 := [180, 0, 15, 42, 180, 0, 15, 160, 0, 7, 4, 167, 0, 4, 3, 172]
abbrev dktX13_equals_1 : List UInt8 := dkwX13_equals_1 ++ []
def dkwX13_equals_0 : List UInt8 := [43, 193, 0, 10, 153, 0, 34, 43, 192, 0, 10, 77, 44, 180, 0, 9, 42, 180, 0, 9, 160, 0, 18, 44]
abbrev dktX13_equals_0 : List UInt8 := dkwX13_equals_0 ++ dktX13_equals_1
theorem dksX13_equals_0 : cX13_equals.data.toList.drop 0 = dktX13_equals_0 := by decide +kernel
theorem dksX13_equals_1 : cX13_equals.data.toList.drop 24 = dktX13_equals_1 := dk_seg dksX13_equals_0 24 rfl rfl
theorem dX13_equals_0 : decode cX13_equals 0 = .ok (.aload_n 1, 1) := dk_43 (dk_at dksX13_equals_0 0 rfl rfl)
theorem dX13_equals_1 : decode cX13_equals 1 = .ok (.instanceof 10, 3) := dk_193 0 10 (dk_at dksX13_equals_0 1 rfl rfl)
theorem dX13_equals_4 : decode cX13_equals 4 = .ok (.ifCond .eq 34, 3) := dk_153 0 34 (dk_at dksX13_equals_0 4 rfl rfl)
theorem dX13_equals_7 : decode cX13_equals 7 = .ok (.aload_n 1, 1) := dk_43 (dk_at dksX13_equals_0 7 rfl rfl)
theorem dX13_equals_8 : decode cX13_equals 8 = .ok (.checkcast 10, 3) := dk_192 0 10 (dk_at dksX13_equals_0 8 rfl rfl)
theorem dX13_equals_11 : decode cX13_equals 11 = .ok (.astore_n 2, 1) := dk_77 (dk_at dksX13_equals_0 11 rfl rfl)
theorem dX13_equals_12 : decode cX13_equals 12 = .ok (.aload_n 2, 1) := dk_44 (dk_at dksX13_equals_0 12 rfl rfl)
theorem dX13_equals_13 : decode cX13_equals 13 = .ok (.getfield 9, 3) := dk_180 0 9 (dk_at dksX13_equals_0 13 rfl rfl)
theorem dX13_equals_16 : decode cX13_equals 16 = .ok (.aload_n 0, 1) := dk_42 (dk_at dksX13_equals_0 16 rfl rfl)
theorem dX13_equals_17 : decode cX13_equals 17 = .ok (.getfield 9, 3) := dk_180 0 9 (dk_at dksX13_equals_0 17 rfl rfl)
theorem dX13_equals_20 : decode cX13_equals 20 = .ok (.if_icmp .ne 18, 3) := dk_160 0 18 (dk_at dksX13_equals_0 20 rfl rfl)
theorem dX13_equals_23 : decode cX13_equals 23 = .ok (.aload_n 2, 1) := dk_44 (dk_at dksX13_equals_0 23 rfl rfl)
theorem dX13_equals_24 : decode cX13_equals 24 = .ok (.getfield 15, 3) := dk_180 0 15 (dk_at dksX13_equals_1 0 rfl rfl)
theorem dX13_equals_27 : decode cX13_equals 27 = .ok (.aload_n 0, 1) := dk_42 (dk_at dksX13_equals_1 3 rfl rfl)
theorem dX13_equals_28 : decode cX13_equals 28 = .ok (.getfield 15, 3) := dk_180 0 15 (dk_at dksX13_equals_1 4 rfl rfl)
theorem dX13_equals_31 : decode cX13_equals 31 = .ok (.if_icmp .ne 7, 3) := dk_160 0 7 (dk_at dksX13_equals_1 7 rfl rfl)
theorem dX13_equals_34 : decode cX13_equals 34 = .ok (.iconst 1, 1) := dk_4 (dk_at dksX13_equals_1 10 rfl rfl)
theorem dX13_equals_35 : decode cX13_equals 35 = .ok (.goto 4, 3) := dk_167 0 4 (dk_at dksX13_equals_1 11 rfl rfl)
theorem dX13_equals_38 : decode cX13_equals 38 = .ok (.iconst 0, 1) := dk_3 (dk_at dksX13_equals_1 14 rfl rfl)
theorem dX13_equals_39 : decode cX13_equals 39 = .ok (.ireturn, 1) := dk_172 (dk_at dksX13_equals_1 15 rfl rfl)
theorem q162 : (Jvm.Cond.initialized "StringTableau$Word") ∈ lw_all := lw_g (lw_at lw_m1 43 rfl) rfl
theorem q1055 : (Jvm.Cond.selects "StringTableau$Word" ({ cls := "java/lang/Object", name := "getClass", desc := "()Ljava/lang/Class;" } : Jvm.MethodName) ({ cls := "java/lang/Object", name := "getClass", desc := "()Ljava/lang/Class;" } : Jvm.MethodName)) ∈ lw_all := lw_g (lw_at lw_m4 216 rfl) rfl
theorem q2211 : (Jvm.Cond.instantiable "StringTableau$Word" (2 : Nat)) ∈ lw_all := lw_g (lw_at lw_m9 172 rfl) rfl
theorem q2213 : (Jvm.Cond.instanceMethod ({ cls := "StringTableau$Word", name := "<init>", desc := "(II)V" } : Jvm.MethodName)) ∈ lw_all := lw_g (lw_at lw_m9 174 rfl) rfl
theorem q2214 : (Jvm.Cond.code ({ cls := "StringTableau$Word", name := "<init>", desc := "(II)V" } : Jvm.MethodName) prog_14_method_1_code (3 : Nat) (Option.none : Option Jvm.ClassFile.FieldType)) ∈ lw_all := lw_g (lw_at lw_m9 175 rfl) rfl
theorem q2215 : (Jvm.Cond.methodLink "StringTableau$Word" (3 : Nat) ({ cls := "java/lang/Object", name := "<init>", desc := "()V" } : Jvm.MethodName)) ∈ lw_all := lw_g (lw_at lw_m9 176 rfl) rfl
theorem q2216 : (Jvm.Cond.fieldLink "StringTableau$Word" (9 : Nat) "StringTableau$Word" "x" "I") ∈ lw_all := lw_g (lw_at lw_m9 177 rfl) rfl
theorem q2217 : (Jvm.Cond.fieldLink "StringTableau$Word" (15 : Nat) "StringTableau$Word" "z" "I") ∈ lw_all := lw_g (lw_at lw_m9 178 rfl) rfl
theorem q2218 : (Jvm.Cond.laysFinal "StringTableau$Word" "StringTableau$Word" "x" "I") ∈ lw_all := lw_g (lw_at lw_m9 179 rfl) rfl
theorem q2219 : (Jvm.Cond.soleField "StringTableau$Word" "x") ∈ lw_all := lw_g (lw_at lw_m9 180 rfl) rfl
theorem q2220 : (Jvm.Cond.laysFinal "StringTableau$Word" "StringTableau$Word" "z" "I") ∈ lw_all := lw_g (lw_at lw_m9 181 rfl) rfl
theorem q2221 : (Jvm.Cond.soleField "StringTableau$Word" "z") ∈ lw_all := lw_g (lw_at lw_m9 182 rfl) rfl
theorem q2222 : (Jvm.Cond.superclass "StringTableau$Word" "java/lang/Object") ∈ lw_all := lw_g (lw_at lw_m9 183 rfl) rfl
theorem q2257 : (Jvm.Cond.selects "StringTableau$Word" ({ cls := "java/lang/Object", name := "hashCode", desc := "()I" } : Jvm.MethodName) ({ cls := "StringTableau$Word", name := "hashCode", desc := "()I" } : Jvm.MethodName)) ∈ lw_all := lw_g (lw_at lw_m9 218 rfl) rfl
theorem q2258 : (Jvm.Cond.instanceMethod ({ cls := "StringTableau$Word", name := "hashCode", desc := "()I" } : Jvm.MethodName)) ∈ lw_all := lw_g (lw_at lw_m9 219 rfl) rfl
theorem q2259 : (Jvm.Cond.code ({ cls := "StringTableau$Word", name := "hashCode", desc := "()I" } : Jvm.MethodName) prog_14_method_3_code (1 : Nat) (Option.some Jvm.ClassFile.FieldType.int)) ∈ lw_all := lw_g (lw_at lw_m9 220 rfl) rfl
theorem q2614 : (Jvm.Cond.selects "StringTableau$Word" ({ cls := "java/lang/Object", name := "equals", desc := "(Ljava/lang/Object;)Z" } : Jvm.MethodName) ({ cls := "StringTableau$Word", name := "equals", desc := "(Ljava/lang/Object;)Z" } : Jvm.MethodName)) ∈ lw_all := lw_g (lw_at lw_m11 95 rfl) rfl
theorem q2615 : (Jvm.Cond.instanceMethod ({ cls := "StringTableau$Word", name := "equals", desc := "(Ljava/lang/Object;)Z" } : Jvm.MethodName)) ∈ lw_all := lw_g (lw_at lw_m11 96 rfl) rfl
theorem q2616 : (Jvm.Cond.code ({ cls := "StringTableau$Word", name := "equals", desc := "(Ljava/lang/Object;)Z" } : Jvm.MethodName) prog_14_method_2_code (3 : Nat) (Option.some Jvm.ClassFile.FieldType.boolean)) ∈ lw_all := lw_g (lw_at lw_m11 97 rfl) rfl
theorem q2617 : (Jvm.Cond.classLink "StringTableau$Word" (10 : Nat) "StringTableau$Word") ∈ lw_all := lw_g (lw_at lw_m11 98 rfl) rfl
theorem q3571 : (Jvm.Cond.castable "StringTableau$Word" "java/lang/Object") ∈ lw_tbl := lw_at lw_m15 92 rfl
theorem in_X13 : ∀ w ∈ wsX130, w ∈ lw_all := lw_in wsX130 [2218, 2220] (by decide +kernel) (by decide +kernel)
