/-! StringTableauModel -/
set_option maxRecDepth 100000
def RX5 : String := "StringTableauModel"
def TX5 : u_T := fun k => match k with
  | 0 => ("StringTableauModel", "told", "I", false)
  | 1 => ("StringTableauModel", "now", "[I", true)
  | 2 => ("StringTableauModel", "aside", "[I", true)
  | 3 => ("StringTableauModel", "tried", "[I", true)
  | 4 => ("StringTableauModel", "history", "[I", true)
  | 5 => ("StringTableauModel", "historyMany", "I", false)
  | 6 => ("StringTableauModel", "outX", "I", false)
  | 7 => ("StringTableauModel", "outZ", "I", false)
  | 8 => ("StringTableauModel", "outMinus", "I", false)
  | 9 => ("StringTableauModel", "kinds", "[I", true)
  | 10 => ("StringTableauModel", "firsts", "[I", true)
  | 11 => ("StringTableauModel", "seconds", "[I", true)
  | 12 => ("StringTableauModel", "whens", "[I", true)
  | 13 => ("StringTableauModel", "xs", "[I", true)
  | 14 => ("StringTableauModel", "zs", "[I", true)
  | 15 => ("StringTableauModel", "signs", "[I", true)
  | 16 => ("StringTableauModel", "tolds", "[I", true)
  | 17 => ("StringTableauModel", "numbers", "[I", true)
  | 18 => ("StringTableauModel", "operations", "I", false)
  | 19 => ("StringTableauModel", "buffer", "[B", true)
  | 20 => ("StringTableauModel", "filled", "I", false)
  | 21 => ("StringTableauModel", "length", "I", false)
  | 22 => ("StringTableauModel", "at", "I", false)
  | 23 => ("StringTableauModel", "from", "I", false)
  | 24 => ("StringTableauModel", "token", "I", false)
  | 25 => ("StringTableauModel", "word", "I", false)
  | 26 => ("StringTableauModel", "value", "I", false)
  | 27 => ("StringTableauModel", "code", "I", false)
  | 28 => ("StringTableauModel", "offset", "I", false)
  | 29 => ("StringTableauModel", "qubits", "I", false)
  | 30 => ("StringTableauModel", "seed", "I", false)
  | 31 => ("StringTableauModel", "hasSeed", "Z", false)
  | 32 => ("StringTableauModel", "measures", "I", false)
  | 33 => ("StringTableauModel", "draft", "[I", true)
  | 34 => ("StringTableauModel", "drafts", "I", false)
  | 35 => ("StringTableauModel", "supports", "[I", true)
  | 36 => ("StringTableauModel", "kept", "[I", true)
  | 37 => ("StringTableauModel", "isKept", "[Z", true)
  | 38 => ("StringTableauModel", "alike", "I", false)
  | 39 => ("StringTableauModel", "unlike", "I", false)
  | 40 => ("StringTableauModel", "output", "[B", true)
  | _ => ("StringTableauModel", "written", "I", false)
def tyX5 : Nat → FieldType := fun k => match k with
  | 0 => .int
  | 1 => .array .int
  | 2 => .array .int
  | 3 => .array .int
  | 4 => .array .int
  | 5 => .int
  | 6 => .int
  | 7 => .int
  | 8 => .int
  | 9 => .array .int
  | 10 => .array .int
  | 11 => .array .int
  | 12 => .array .int
  | 13 => .array .int
  | 14 => .array .int
  | 15 => .array .int
  | 16 => .array .int
  | 17 => .array .int
  | 18 => .int
  | 19 => .array .byte
  | 20 => .int
  | 21 => .int
  | 22 => .int
  | 23 => .int
  | 24 => .int
  | 25 => .int
  | 26 => .int
  | 27 => .int
  | 28 => .int
  | 29 => .int
  | 30 => .int
  | 31 => .boolean
  | 32 => .int
  | 33 => .array .int
  | 34 => .int
  | 35 => .array .int
  | 36 => .array .int
  | 37 => .array .boolean
  | 38 => .int
  | 39 => .int
  | 40 => .array .byte
  | _ => .int
abbrev wsX50 : List Cond := u_ws RX5 TX5 42
set_option maxRecDepth 100000 in
theorem nmX5 : ∀ a, a < 42 → ∀ b, b < 42 → a ≠ b → (TX5 a).2.1 ≠ (TX5 b).2.1 := by decide +kernel
set_option maxRecDepth 100000 in
theorem tyX5_ok : ∀ k, k < 42 → parseFieldDescriptor (TX5 k).2.2.1 = some (tyX5 k) := by decide +kernel
abbrev cX5_init : ByteArray := prog_16_method_1_code
def yX5_init : MethodName := ⟨RX5, "<init>", "()V"⟩
def dkwX5_init_7 : List UInt8 := [188, 8, 181, 0, 70, 42, 4, 3, 182, 0, 73, 177]
abbrev dktX5_init_7 : List UInt8 := dkwX5_init_7 ++ []
def dkwX5_init_6 : List UInt8 := [188, 10, 181, 0, 60, 42, 16, 48, 188, 10, 181, 0, 63, 42, 5, 188, 4, 181, 0, 66, 42, 17, 9, 96]
abbrev dktX5_init_6 : List UInt8 := dkwX5_init_6 ++ dktX5_init_7
def dkwX5_init_5 : List UInt8 := [188, 8, 181, 0, 49, 42, 2, 181, 0, 53, 42, 17, 1, 224, 188, 10, 181, 0, 57, 42, 17, 1, 0]
abbrev dktX5_init_5 : List UInt8 := dkwX5_init_5 ++ dktX5_init_6
def dkwX5_init_4 : List UInt8 := [181, 0, 40, 42, 16, 60, 188, 10, 181, 0, 43, 42, 16, 60, 188, 10, 181, 0, 46, 42, 17, 2, 188]
abbrev dktX5_init_4 : List UInt8 := dkwX5_init_4 ++ dktX5_init_5
def dkwX5_init_3 : List UInt8 := [181, 0, 31, 42, 16, 60, 188, 10, 181, 0, 34, 42, 16, 60, 188, 10, 181, 0, 37, 42, 16, 60, 188, 10]
abbrev dktX5_init_3 : List UInt8 := dkwX5_init_3 ++ dktX5_init_4
def dkwX5_init_2 : List UInt8 := [181, 0, 22, 42, 16, 60, 188, 10, 181, 0, 25, 42, 16, 60, 188, 10, 181, 0, 28, 42, 16, 60, 188, 10]
abbrev dktX5_init_2 : List UInt8 := dkwX5_init_2 ++ dktX5_init_3
def dkwX5_init_1 : List UInt8 := [17, 2, 18, 188, 10, 181, 0, 16, 42, 17, 20, 180, 188, 10, 181, 0, 19, 42, 16, 60, 188, 10]
abbrev dktX5_init_1 : List UInt8 := dkwX5_init_1 ++ dktX5_init_2
def dkwX5_init_0 : List UInt8 := [42, 183, 0, 1, 42, 17, 2, 18, 188, 10, 181, 0, 7, 42, 17, 2, 18, 188, 10, 181, 0, 13, 42]
abbrev dktX5_init_0 : List UInt8 := dkwX5_init_0 ++ dktX5_init_1
theorem dksX5_init_0 : cX5_init.data.toList.drop 0 = dktX5_init_0 := by decide +kernel
theorem dksX5_init_1 : cX5_init.data.toList.drop 23 = dktX5_init_1 := dk_seg dksX5_init_0 23 rfl rfl
theorem dksX5_init_2 : cX5_init.data.toList.drop 45 = dktX5_init_2 := dk_seg dksX5_init_1 22 rfl rfl
theorem dksX5_init_3 : cX5_init.data.toList.drop 69 = dktX5_init_3 := dk_seg dksX5_init_2 24 rfl rfl
theorem dksX5_init_4 : cX5_init.data.toList.drop 93 = dktX5_init_4 := dk_seg dksX5_init_3 24 rfl rfl
theorem dksX5_init_5 : cX5_init.data.toList.drop 116 = dktX5_init_5 := dk_seg dksX5_init_4 23 rfl rfl
theorem dksX5_init_6 : cX5_init.data.toList.drop 139 = dktX5_init_6 := dk_seg dksX5_init_5 23 rfl rfl
theorem dksX5_init_7 : cX5_init.data.toList.drop 163 = dktX5_init_7 := dk_seg dksX5_init_6 24 rfl rfl
theorem dX5_init_0 : decode cX5_init 0 = .ok (.aload_n 0, 1) := dk_42 (dk_at dksX5_init_0 0 rfl rfl)
theorem dX5_init_1 : decode cX5_init 1 = .ok (.invokespecial 1, 3) := dk_183 0 1 (dk_at dksX5_init_0 1 rfl rfl)
theorem dX5_init_4 : decode cX5_init 4 = .ok (.aload_n 0, 1) := dk_42 (dk_at dksX5_init_0 4 rfl rfl)
theorem dX5_init_5 : decode cX5_init 5 = .ok (.sipush 530, 3) := dk_17 2 18 (dk_at dksX5_init_0 5 rfl rfl)
theorem dX5_init_8 : decode cX5_init 8 = .ok (.newarray .int, 2) := dk_188_10 (dk_at dksX5_init_0 8 rfl rfl)
theorem dX5_init_10 : decode cX5_init 10 = .ok (.putfield 7, 3) := dk_181 0 7 (dk_at dksX5_init_0 10 rfl rfl)
theorem dX5_init_13 : decode cX5_init 13 = .ok (.aload_n 0, 1) := dk_42 (dk_at dksX5_init_0 13 rfl rfl)
theorem dX5_init_14 : decode cX5_init 14 = .ok (.sipush 530, 3) := dk_17 2 18 (dk_at dksX5_init_0 14 rfl rfl)
theorem dX5_init_17 : decode cX5_init 17 = .ok (.newarray .int, 2) := dk_188_10 (dk_at dksX5_init_0 17 rfl rfl)
theorem dX5_init_19 : decode cX5_init 19 = .ok (.putfield 13, 3) := dk_181 0 13 (dk_at dksX5_init_0 19 rfl rfl)
theorem dX5_init_22 : decode cX5_init 22 = .ok (.aload_n 0, 1) := dk_42 (dk_at dksX5_init_0 22 rfl rfl)
theorem dX5_init_23 : decode cX5_init 23 = .ok (.sipush 530, 3) := dk_17 2 18 (dk_at dksX5_init_1 0 rfl rfl)
theorem dX5_init_26 : decode cX5_init 26 = .ok (.newarray .int, 2) := dk_188_10 (dk_at dksX5_init_1 3 rfl rfl)
theorem dX5_init_28 : decode cX5_init 28 = .ok (.putfield 16, 3) := dk_181 0 16 (dk_at dksX5_init_1 5 rfl rfl)
theorem dX5_init_31 : decode cX5_init 31 = .ok (.aload_n 0, 1) := dk_42 (dk_at dksX5_init_1 8 rfl rfl)
theorem dX5_init_32 : decode cX5_init 32 = .ok (.sipush 5300, 3) := dk_17 20 180 (dk_at dksX5_init_1 9 rfl rfl)
theorem dX5_init_35 : decode cX5_init 35 = .ok (.newarray .int, 2) := dk_188_10 (dk_at dksX5_init_1 12 rfl rfl)
theorem dX5_init_37 : decode cX5_init 37 = .ok (.putfield 19, 3) := dk_181 0 19 (dk_at dksX5_init_1 14 rfl rfl)
theorem dX5_init_40 : decode cX5_init 40 = .ok (.aload_n 0, 1) := dk_42 (dk_at dksX5_init_1 17 rfl rfl)
theorem dX5_init_41 : decode cX5_init 41 = .ok (.bipush 60, 2) := dk_16 60 (dk_at dksX5_init_1 18 rfl rfl)
theorem dX5_init_43 : decode cX5_init 43 = .ok (.newarray .int, 2) := dk_188_10 (dk_at dksX5_init_1 20 rfl rfl)
theorem dX5_init_45 : decode cX5_init 45 = .ok (.putfield 22, 3) := dk_181 0 22 (dk_at dksX5_init_2 0 rfl rfl)
theorem dX5_init_48 : decode cX5_init 48 = .ok (.aload_n 0, 1) := dk_42 (dk_at dksX5_init_2 3 rfl rfl)
theorem dX5_init_49 : decode cX5_init 49 = .ok (.bipush 60, 2) := dk_16 60 (dk_at dksX5_init_2 4 rfl rfl)
theorem dX5_init_51 : decode cX5_init 51 = .ok (.newarray .int, 2) := dk_188_10 (dk_at dksX5_init_2 6 rfl rfl)
theorem dX5_init_53 : decode cX5_init 53 = .ok (.putfield 25, 3) := dk_181 0 25 (dk_at dksX5_init_2 8 rfl rfl)
theorem dX5_init_56 : decode cX5_init 56 = .ok (.aload_n 0, 1) := dk_42 (dk_at dksX5_init_2 11 rfl rfl)
theorem dX5_init_57 : decode cX5_init 57 = .ok (.bipush 60, 2) := dk_16 60 (dk_at dksX5_init_2 12 rfl rfl)
theorem dX5_init_59 : decode cX5_init 59 = .ok (.newarray .int, 2) := dk_188_10 (dk_at dksX5_init_2 14 rfl rfl)
theorem dX5_init_61 : decode cX5_init 61 = .ok (.putfield 28, 3) := dk_181 0 28 (dk_at dksX5_init_2 16 rfl rfl)
theorem dX5_init_64 : decode cX5_init 64 = .ok (.aload_n 0, 1) := dk_42 (dk_at dksX5_init_2 19 rfl rfl)
theorem dX5_init_65 : decode cX5_init 65 = .ok (.bipush 60, 2) := dk_16 60 (dk_at dksX5_init_2 20 rfl rfl)
theorem dX5_init_67 : decode cX5_init 67 = .ok (.newarray .int, 2) := dk_188_10 (dk_at dksX5_init_2 22 rfl rfl)
theorem dX5_init_69 : decode cX5_init 69 = .ok (.putfield 31, 3) := dk_181 0 31 (dk_at dksX5_init_3 0 rfl rfl)
theorem dX5_init_72 : decode cX5_init 72 = .ok (.aload_n 0, 1) := dk_42 (dk_at dksX5_init_3 3 rfl rfl)
theorem dX5_init_73 : decode cX5_init 73 = .ok (.bipush 60, 2) := dk_16 60 (dk_at dksX5_init_3 4 rfl rfl)
theorem dX5_init_75 : decode cX5_init 75 = .ok (.newarray .int, 2) := dk_188_10 (dk_at dksX5_init_3 6 rfl rfl)
theorem dX5_init_77 : decode cX5_init 77 = .ok (.putfield 34, 3) := dk_181 0 34 (dk_at dksX5_init_3 8 rfl rfl)
theorem dX5_init_80 : decode cX5_init 80 = .ok (.aload_n 0, 1) := dk_42 (dk_at dksX5_init_3 11 rfl rfl)
theorem dX5_init_81 : decode cX5_init 81 = .ok (.bipush 60, 2) := dk_16 60 (dk_at dksX5_init_3 12 rfl rfl)
theorem dX5_init_83 : decode cX5_init 83 = .ok (.newarray .int, 2) := dk_188_10 (dk_at dksX5_init_3 14 rfl rfl)
theorem dX5_init_85 : decode cX5_init 85 = .ok (.putfield 37, 3) := dk_181 0 37 (dk_at dksX5_init_3 16 rfl rfl)
theorem dX5_init_88 : decode cX5_init 88 = .ok (.aload_n 0, 1) := dk_42 (dk_at dksX5_init_3 19 rfl rfl)
theorem dX5_init_89 : decode cX5_init 89 = .ok (.bipush 60, 2) := dk_16 60 (dk_at dksX5_init_3 20 rfl rfl)
theorem dX5_init_91 : decode cX5_init 91 = .ok (.newarray .int, 2) := dk_188_10 (dk_at dksX5_init_3 22 rfl rfl)
theorem dX5_init_93 : decode cX5_init 93 = .ok (.putfield 40, 3) := dk_181 0 40 (dk_at dksX5_init_4 0 rfl rfl)
theorem dX5_init_96 : decode cX5_init 96 = .ok (.aload_n 0, 1) := dk_42 (dk_at dksX5_init_4 3 rfl rfl)
theorem dX5_init_97 : decode cX5_init 97 = .ok (.bipush 60, 2) := dk_16 60 (dk_at dksX5_init_4 4 rfl rfl)
theorem dX5_init_99 : decode cX5_init 99 = .ok (.newarray .int, 2) := dk_188_10 (dk_at dksX5_init_4 6 rfl rfl)
theorem dX5_init_101 : decode cX5_init 101 = .ok (.putfield 43, 3) := dk_181 0 43 (dk_at dksX5_init_4 8 rfl rfl)
theorem dX5_init_104 : decode cX5_init 104 = .ok (.aload_n 0, 1) := dk_42 (dk_at dksX5_init_4 11 rfl rfl)
theorem dX5_init_105 : decode cX5_init 105 = .ok (.bipush 60, 2) := dk_16 60 (dk_at dksX5_init_4 12 rfl rfl)
theorem dX5_init_107 : decode cX5_init 107 = .ok (.newarray .int, 2) := dk_188_10 (dk_at dksX5_init_4 14 rfl rfl)
theorem dX5_init_109 : decode cX5_init 109 = .ok (.putfield 46, 3) := dk_181 0 46 (dk_at dksX5_init_4 16 rfl rfl)
theorem dX5_init_112 : decode cX5_init 112 = .ok (.aload_n 0, 1) := dk_42 (dk_at dksX5_init_4 19 rfl rfl)
theorem dX5_init_113 : decode cX5_init 113 = .ok (.sipush 700, 3) := dk_17 2 188 (dk_at dksX5_init_4 20 rfl rfl)
theorem dX5_init_116 : decode cX5_init 116 = .ok (.newarray .byte, 2) := dk_188_8 (dk_at dksX5_init_5 0 rfl rfl)
theorem dX5_init_118 : decode cX5_init 118 = .ok (.putfield 49, 3) := dk_181 0 49 (dk_at dksX5_init_5 2 rfl rfl)
theorem dX5_init_121 : decode cX5_init 121 = .ok (.aload_n 0, 1) := dk_42 (dk_at dksX5_init_5 5 rfl rfl)
theorem dX5_init_122 : decode cX5_init 122 = .ok (.iconst (-1), 1) := dk_2 (dk_at dksX5_init_5 6 rfl rfl)
theorem dX5_init_123 : decode cX5_init 123 = .ok (.putfield 53, 3) := dk_181 0 53 (dk_at dksX5_init_5 7 rfl rfl)
theorem dX5_init_126 : decode cX5_init 126 = .ok (.aload_n 0, 1) := dk_42 (dk_at dksX5_init_5 10 rfl rfl)
theorem dX5_init_127 : decode cX5_init 127 = .ok (.sipush 480, 3) := dk_17 1 224 (dk_at dksX5_init_5 11 rfl rfl)
theorem dX5_init_130 : decode cX5_init 130 = .ok (.newarray .int, 2) := dk_188_10 (dk_at dksX5_init_5 14 rfl rfl)
theorem dX5_init_132 : decode cX5_init 132 = .ok (.putfield 57, 3) := dk_181 0 57 (dk_at dksX5_init_5 16 rfl rfl)
theorem dX5_init_135 : decode cX5_init 135 = .ok (.aload_n 0, 1) := dk_42 (dk_at dksX5_init_5 19 rfl rfl)
theorem dX5_init_136 : decode cX5_init 136 = .ok (.sipush 256, 3) := dk_17 1 0 (dk_at dksX5_init_5 20 rfl rfl)
theorem dX5_init_139 : decode cX5_init 139 = .ok (.newarray .int, 2) := dk_188_10 (dk_at dksX5_init_6 0 rfl rfl)
theorem dX5_init_141 : decode cX5_init 141 = .ok (.putfield 60, 3) := dk_181 0 60 (dk_at dksX5_init_6 2 rfl rfl)
theorem dX5_init_144 : decode cX5_init 144 = .ok (.aload_n 0, 1) := dk_42 (dk_at dksX5_init_6 5 rfl rfl)
theorem dX5_init_145 : decode cX5_init 145 = .ok (.bipush 48, 2) := dk_16 48 (dk_at dksX5_init_6 6 rfl rfl)
theorem dX5_init_147 : decode cX5_init 147 = .ok (.newarray .int, 2) := dk_188_10 (dk_at dksX5_init_6 8 rfl rfl)
theorem dX5_init_149 : decode cX5_init 149 = .ok (.putfield 63, 3) := dk_181 0 63 (dk_at dksX5_init_6 10 rfl rfl)
theorem dX5_init_152 : decode cX5_init 152 = .ok (.aload_n 0, 1) := dk_42 (dk_at dksX5_init_6 13 rfl rfl)
theorem dX5_init_153 : decode cX5_init 153 = .ok (.iconst 2, 1) := dk_5 (dk_at dksX5_init_6 14 rfl rfl)
theorem dX5_init_154 : decode cX5_init 154 = .ok (.newarray .boolean, 2) := dk_188_4 (dk_at dksX5_init_6 15 rfl rfl)
theorem dX5_init_156 : decode cX5_init 156 = .ok (.putfield 66, 3) := dk_181 0 66 (dk_at dksX5_init_6 17 rfl rfl)
theorem dX5_init_159 : decode cX5_init 159 = .ok (.aload_n 0, 1) := dk_42 (dk_at dksX5_init_6 20 rfl rfl)
theorem dX5_init_160 : decode cX5_init 160 = .ok (.sipush 2400, 3) := dk_17 9 96 (dk_at dksX5_init_6 21 rfl rfl)
theorem dX5_init_163 : decode cX5_init 163 = .ok (.newarray .byte, 2) := dk_188_8 (dk_at dksX5_init_7 0 rfl rfl)
theorem dX5_init_165 : decode cX5_init 165 = .ok (.putfield 70, 3) := dk_181 0 70 (dk_at dksX5_init_7 2 rfl rfl)
theorem dX5_init_168 : decode cX5_init 168 = .ok (.aload_n 0, 1) := dk_42 (dk_at dksX5_init_7 5 rfl rfl)
theorem dX5_init_169 : decode cX5_init 169 = .ok (.iconst 1, 1) := dk_4 (dk_at dksX5_init_7 6 rfl rfl)
theorem dX5_init_170 : decode cX5_init 170 = .ok (.iconst 0, 1) := dk_3 (dk_at dksX5_init_7 7 rfl rfl)
theorem dX5_init_171 : decode cX5_init 171 = .ok (.invokevirtual 73, 3) := dk_182 0 73 (dk_at dksX5_init_7 8 rfl rfl)
theorem dX5_init_174 : decode cX5_init 174 = .ok (.return_, 1) := dk_177 (dk_at dksX5_init_7 11 rfl rfl)
abbrev cX5_begins : ByteArray := prog_16_method_2_code
def yX5_begins : MethodName := ⟨RX5, "begins", "(II)V"⟩
def dkwX5_begins_2 : List UInt8 := [16, 14, 29, 96, 4, 29, 120, 79, 132, 3, 1, 167, 255, 236, 42, 3, 181, 0, 77, 177]
abbrev dktX5_begins_2 : List UInt8 := dkwX5_begins_2 ++ []
def dkwX5_begins_1 : List UInt8 := [180, 0, 7, 3, 27, 79, 42, 180, 0, 7, 4, 28, 79, 3, 62, 29, 27, 162, 0, 21, 42, 180, 0, 7]
abbrev dktX5_begins_1 : List UInt8 := dkwX5_begins_1 ++ dktX5_begins_2
def dkwX5_begins_0 : List UInt8 := [3, 62, 29, 17, 2, 18, 162, 0, 16, 42, 180, 0, 7, 29, 3, 79, 132, 3, 1, 167, 255, 239, 42]
abbrev dktX5_begins_0 : List UInt8 := dkwX5_begins_0 ++ dktX5_begins_1
theorem dksX5_begins_0 : cX5_begins.data.toList.drop 0 = dktX5_begins_0 := by decide +kernel
theorem dksX5_begins_1 : cX5_begins.data.toList.drop 23 = dktX5_begins_1 := dk_seg dksX5_begins_0 23 rfl rfl
theorem dksX5_begins_2 : cX5_begins.data.toList.drop 47 = dktX5_begins_2 := dk_seg dksX5_begins_1 24 rfl rfl
theorem dX5_begins_0 : decode cX5_begins 0 = .ok (.iconst 0, 1) := dk_3 (dk_at dksX5_begins_0 0 rfl rfl)
theorem dX5_begins_1 : decode cX5_begins 1 = .ok (.istore_n 3, 1) := dk_62 (dk_at dksX5_begins_0 1 rfl rfl)
theorem dX5_begins_2 : decode cX5_begins 2 = .ok (.iload_n 3, 1) := dk_29 (dk_at dksX5_begins_0 2 rfl rfl)
theorem dX5_begins_3 : decode cX5_begins 3 = .ok (.sipush 530, 3) := dk_17 2 18 (dk_at dksX5_begins_0 3 rfl rfl)
theorem dX5_begins_6 : decode cX5_begins 6 = .ok (.if_icmp .ge 16, 3) := dk_162 0 16 (dk_at dksX5_begins_0 6 rfl rfl)
theorem dX5_begins_9 : decode cX5_begins 9 = .ok (.aload_n 0, 1) := dk_42 (dk_at dksX5_begins_0 9 rfl rfl)
theorem dX5_begins_10 : decode cX5_begins 10 = .ok (.getfield 7, 3) := dk_180 0 7 (dk_at dksX5_begins_0 10 rfl rfl)
theorem dX5_begins_13 : decode cX5_begins 13 = .ok (.iload_n 3, 1) := dk_29 (dk_at dksX5_begins_0 13 rfl rfl)
theorem dX5_begins_14 : decode cX5_begins 14 = .ok (.iconst 0, 1) := dk_3 (dk_at dksX5_begins_0 14 rfl rfl)
theorem dX5_begins_15 : decode cX5_begins 15 = .ok (.iastore, 1) := dk_79 (dk_at dksX5_begins_0 15 rfl rfl)
theorem dX5_begins_16 : decode cX5_begins 16 = .ok (.iinc 3 1, 3) := dk_132 3 1 (dk_at dksX5_begins_0 16 rfl rfl)
theorem dX5_begins_19 : decode cX5_begins 19 = .ok (.goto (-17), 3) := dk_167 255 239 (dk_at dksX5_begins_0 19 rfl rfl)
theorem dX5_begins_22 : decode cX5_begins 22 = .ok (.aload_n 0, 1) := dk_42 (dk_at dksX5_begins_0 22 rfl rfl)
theorem dX5_begins_23 : decode cX5_begins 23 = .ok (.getfield 7, 3) := dk_180 0 7 (dk_at dksX5_begins_1 0 rfl rfl)
theorem dX5_begins_26 : decode cX5_begins 26 = .ok (.iconst 0, 1) := dk_3 (dk_at dksX5_begins_1 3 rfl rfl)
theorem dX5_begins_27 : decode cX5_begins 27 = .ok (.iload_n 1, 1) := dk_27 (dk_at dksX5_begins_1 4 rfl rfl)
theorem dX5_begins_28 : decode cX5_begins 28 = .ok (.iastore, 1) := dk_79 (dk_at dksX5_begins_1 5 rfl rfl)
theorem dX5_begins_29 : decode cX5_begins 29 = .ok (.aload_n 0, 1) := dk_42 (dk_at dksX5_begins_1 6 rfl rfl)
theorem dX5_begins_30 : decode cX5_begins 30 = .ok (.getfield 7, 3) := dk_180 0 7 (dk_at dksX5_begins_1 7 rfl rfl)
theorem dX5_begins_33 : decode cX5_begins 33 = .ok (.iconst 1, 1) := dk_4 (dk_at dksX5_begins_1 10 rfl rfl)
theorem dX5_begins_34 : decode cX5_begins 34 = .ok (.iload_n 2, 1) := dk_28 (dk_at dksX5_begins_1 11 rfl rfl)
theorem dX5_begins_35 : decode cX5_begins 35 = .ok (.iastore, 1) := dk_79 (dk_at dksX5_begins_1 12 rfl rfl)
theorem dX5_begins_36 : decode cX5_begins 36 = .ok (.iconst 0, 1) := dk_3 (dk_at dksX5_begins_1 13 rfl rfl)
theorem dX5_begins_37 : decode cX5_begins 37 = .ok (.istore_n 3, 1) := dk_62 (dk_at dksX5_begins_1 14 rfl rfl)
theorem dX5_begins_38 : decode cX5_begins 38 = .ok (.iload_n 3, 1) := dk_29 (dk_at dksX5_begins_1 15 rfl rfl)
theorem dX5_begins_39 : decode cX5_begins 39 = .ok (.iload_n 1, 1) := dk_27 (dk_at dksX5_begins_1 16 rfl rfl)
theorem dX5_begins_40 : decode cX5_begins 40 = .ok (.if_icmp .ge 21, 3) := dk_162 0 21 (dk_at dksX5_begins_1 17 rfl rfl)
theorem dX5_begins_43 : decode cX5_begins 43 = .ok (.aload_n 0, 1) := dk_42 (dk_at dksX5_begins_1 20 rfl rfl)
theorem dX5_begins_44 : decode cX5_begins 44 = .ok (.getfield 7, 3) := dk_180 0 7 (dk_at dksX5_begins_1 21 rfl rfl)
theorem dX5_begins_47 : decode cX5_begins 47 = .ok (.bipush 14, 2) := dk_16 14 (dk_at dksX5_begins_2 0 rfl rfl)
theorem dX5_begins_49 : decode cX5_begins 49 = .ok (.iload_n 3, 1) := dk_29 (dk_at dksX5_begins_2 2 rfl rfl)
theorem dX5_begins_50 : decode cX5_begins 50 = .ok (.iadd, 1) := dk_96 (dk_at dksX5_begins_2 3 rfl rfl)
theorem dX5_begins_51 : decode cX5_begins 51 = .ok (.iconst 1, 1) := dk_4 (dk_at dksX5_begins_2 4 rfl rfl)
theorem dX5_begins_52 : decode cX5_begins 52 = .ok (.iload_n 3, 1) := dk_29 (dk_at dksX5_begins_2 5 rfl rfl)
theorem dX5_begins_53 : decode cX5_begins 53 = .ok (.ishl, 1) := dk_120 (dk_at dksX5_begins_2 6 rfl rfl)
theorem dX5_begins_54 : decode cX5_begins 54 = .ok (.iastore, 1) := dk_79 (dk_at dksX5_begins_2 7 rfl rfl)
theorem dX5_begins_55 : decode cX5_begins 55 = .ok (.iinc 3 1, 3) := dk_132 3 1 (dk_at dksX5_begins_2 8 rfl rfl)
theorem dX5_begins_58 : decode cX5_begins 58 = .ok (.goto (-20), 3) := dk_167 255 236 (dk_at dksX5_begins_2 11 rfl rfl)
theorem dX5_begins_61 : decode cX5_begins 61 = .ok (.aload_n 0, 1) := dk_42 (dk_at dksX5_begins_2 14 rfl rfl)
theorem dX5_begins_62 : decode cX5_begins 62 = .ok (.iconst 0, 1) := dk_3 (dk_at dksX5_begins_2 15 rfl rfl)
theorem dX5_begins_63 : decode cX5_begins 63 = .ok (.putfield 77, 3) := dk_181 0 77 (dk_at dksX5_begins_2 16 rfl rfl)
theorem dX5_begins_66 : decode cX5_begins 66 = .ok (.return_, 1) := dk_177 (dk_at dksX5_begins_2 19 rfl rfl)
abbrev cX5_thrown : ByteArray := prog_16_method_3_code
def yX5_thrown : MethodName := ⟨RX5, "thrown", "()I"⟩
theorem dX5_thrown_0 : decode cX5_thrown 0 = .ok (.aload_n 0, 1) := by decide +kernel
theorem dX5_thrown_1 : decode cX5_thrown 1 = .ok (.getfield 80, 3) := by decide +kernel
theorem dX5_thrown_4 : decode cX5_thrown 4 = .ok (.ireturn, 1) := by decide +kernel
abbrev cX5_undo : ByteArray := prog_16_method_13_code
def yX5_undo : MethodName := ⟨RX5, "undo", "()I"⟩
def dkwX5_undo_3 : List UInt8 := [180, 0, 77, 172]
abbrev dktX5_undo_3 : List UInt8 := dkwX5_undo_3 ++ []
def dkwX5_undo_2 : List UInt8 := [180, 0, 19, 17, 2, 18, 42, 180, 0, 77, 104, 27, 96, 46, 79, 132, 1, 1, 167, 255, 225, 42]
abbrev dktX5_undo_2 : List UInt8 := dkwX5_undo_2 ++ dktX5_undo_3
def dkwX5_undo_1 : List UInt8 := [180, 0, 77, 4, 100, 181, 0, 77, 3, 60, 27, 17, 2, 18, 162, 0, 30, 42, 180, 0, 7, 27, 42]
abbrev dktX5_undo_1 : List UInt8 := dkwX5_undo_1 ++ dktX5_undo_2
def dkwX5_undo_0 : List UInt8 := [42, 42, 180, 0, 77, 158, 0, 7, 4, 167, 0, 4, 3, 182, 0, 87, 154, 0, 5, 3, 172, 42, 42]
abbrev dktX5_undo_0 : List UInt8 := dkwX5_undo_0 ++ dktX5_undo_1
theorem dksX5_undo_0 : cX5_undo.data.toList.drop 0 = dktX5_undo_0 := by decide +kernel
theorem dksX5_undo_1 : cX5_undo.data.toList.drop 23 = dktX5_undo_1 := dk_seg dksX5_undo_0 23 rfl rfl
theorem dksX5_undo_2 : cX5_undo.data.toList.drop 46 = dktX5_undo_2 := dk_seg dksX5_undo_1 23 rfl rfl
theorem dksX5_undo_3 : cX5_undo.data.toList.drop 68 = dktX5_undo_3 := dk_seg dksX5_undo_2 22 rfl rfl
theorem dX5_undo_0 : decode cX5_undo 0 = .ok (.aload_n 0, 1) := dk_42 (dk_at dksX5_undo_0 0 rfl rfl)
theorem dX5_undo_1 : decode cX5_undo 1 = .ok (.aload_n 0, 1) := dk_42 (dk_at dksX5_undo_0 1 rfl rfl)
theorem dX5_undo_2 : decode cX5_undo 2 = .ok (.getfield 77, 3) := dk_180 0 77 (dk_at dksX5_undo_0 2 rfl rfl)
theorem dX5_undo_5 : decode cX5_undo 5 = .ok (.ifCond .le 7, 3) := dk_158 0 7 (dk_at dksX5_undo_0 5 rfl rfl)
theorem dX5_undo_8 : decode cX5_undo 8 = .ok (.iconst 1, 1) := dk_4 (dk_at dksX5_undo_0 8 rfl rfl)
theorem dX5_undo_9 : decode cX5_undo 9 = .ok (.goto 4, 3) := dk_167 0 4 (dk_at dksX5_undo_0 9 rfl rfl)
theorem dX5_undo_12 : decode cX5_undo 12 = .ok (.iconst 0, 1) := dk_3 (dk_at dksX5_undo_0 12 rfl rfl)
theorem dX5_undo_13 : decode cX5_undo 13 = .ok (.invokevirtual 87, 3) := dk_182 0 87 (dk_at dksX5_undo_0 13 rfl rfl)
theorem dX5_undo_16 : decode cX5_undo 16 = .ok (.ifCond .ne 5, 3) := dk_154 0 5 (dk_at dksX5_undo_0 16 rfl rfl)
theorem dX5_undo_19 : decode cX5_undo 19 = .ok (.iconst 0, 1) := dk_3 (dk_at dksX5_undo_0 19 rfl rfl)
theorem dX5_undo_20 : decode cX5_undo 20 = .ok (.ireturn, 1) := dk_172 (dk_at dksX5_undo_0 20 rfl rfl)
theorem dX5_undo_21 : decode cX5_undo 21 = .ok (.aload_n 0, 1) := dk_42 (dk_at dksX5_undo_0 21 rfl rfl)
theorem dX5_undo_22 : decode cX5_undo 22 = .ok (.aload_n 0, 1) := dk_42 (dk_at dksX5_undo_0 22 rfl rfl)
theorem dX5_undo_23 : decode cX5_undo 23 = .ok (.getfield 77, 3) := dk_180 0 77 (dk_at dksX5_undo_1 0 rfl rfl)
theorem dX5_undo_26 : decode cX5_undo 26 = .ok (.iconst 1, 1) := dk_4 (dk_at dksX5_undo_1 3 rfl rfl)
theorem dX5_undo_27 : decode cX5_undo 27 = .ok (.isub, 1) := dk_100 (dk_at dksX5_undo_1 4 rfl rfl)
theorem dX5_undo_28 : decode cX5_undo 28 = .ok (.putfield 77, 3) := dk_181 0 77 (dk_at dksX5_undo_1 5 rfl rfl)
theorem dX5_undo_31 : decode cX5_undo 31 = .ok (.iconst 0, 1) := dk_3 (dk_at dksX5_undo_1 8 rfl rfl)
theorem dX5_undo_32 : decode cX5_undo 32 = .ok (.istore_n 1, 1) := dk_60 (dk_at dksX5_undo_1 9 rfl rfl)
theorem dX5_undo_33 : decode cX5_undo 33 = .ok (.iload_n 1, 1) := dk_27 (dk_at dksX5_undo_1 10 rfl rfl)
theorem dX5_undo_34 : decode cX5_undo 34 = .ok (.sipush 530, 3) := dk_17 2 18 (dk_at dksX5_undo_1 11 rfl rfl)
theorem dX5_undo_37 : decode cX5_undo 37 = .ok (.if_icmp .ge 30, 3) := dk_162 0 30 (dk_at dksX5_undo_1 14 rfl rfl)
theorem dX5_undo_40 : decode cX5_undo 40 = .ok (.aload_n 0, 1) := dk_42 (dk_at dksX5_undo_1 17 rfl rfl)
theorem dX5_undo_41 : decode cX5_undo 41 = .ok (.getfield 7, 3) := dk_180 0 7 (dk_at dksX5_undo_1 18 rfl rfl)
theorem dX5_undo_44 : decode cX5_undo 44 = .ok (.iload_n 1, 1) := dk_27 (dk_at dksX5_undo_1 21 rfl rfl)
theorem dX5_undo_45 : decode cX5_undo 45 = .ok (.aload_n 0, 1) := dk_42 (dk_at dksX5_undo_1 22 rfl rfl)
theorem dX5_undo_46 : decode cX5_undo 46 = .ok (.getfield 19, 3) := dk_180 0 19 (dk_at dksX5_undo_2 0 rfl rfl)
theorem dX5_undo_49 : decode cX5_undo 49 = .ok (.sipush 530, 3) := dk_17 2 18 (dk_at dksX5_undo_2 3 rfl rfl)
theorem dX5_undo_52 : decode cX5_undo 52 = .ok (.aload_n 0, 1) := dk_42 (dk_at dksX5_undo_2 6 rfl rfl)
theorem dX5_undo_53 : decode cX5_undo 53 = .ok (.getfield 77, 3) := dk_180 0 77 (dk_at dksX5_undo_2 7 rfl rfl)
theorem dX5_undo_56 : decode cX5_undo 56 = .ok (.imul, 1) := dk_104 (dk_at dksX5_undo_2 10 rfl rfl)
theorem dX5_undo_57 : decode cX5_undo 57 = .ok (.iload_n 1, 1) := dk_27 (dk_at dksX5_undo_2 11 rfl rfl)
theorem dX5_undo_58 : decode cX5_undo 58 = .ok (.iadd, 1) := dk_96 (dk_at dksX5_undo_2 12 rfl rfl)
theorem dX5_undo_59 : decode cX5_undo 59 = .ok (.iaload, 1) := dk_46 (dk_at dksX5_undo_2 13 rfl rfl)
theorem dX5_undo_60 : decode cX5_undo 60 = .ok (.iastore, 1) := dk_79 (dk_at dksX5_undo_2 14 rfl rfl)
theorem dX5_undo_61 : decode cX5_undo 61 = .ok (.iinc 1 1, 3) := dk_132 1 1 (dk_at dksX5_undo_2 15 rfl rfl)
theorem dX5_undo_64 : decode cX5_undo 64 = .ok (.goto (-31), 3) := dk_167 255 225 (dk_at dksX5_undo_2 18 rfl rfl)
theorem dX5_undo_67 : decode cX5_undo 67 = .ok (.aload_n 0, 1) := dk_42 (dk_at dksX5_undo_2 21 rfl rfl)
theorem dX5_undo_68 : decode cX5_undo 68 = .ok (.getfield 77, 3) := dk_180 0 77 (dk_at dksX5_undo_3 0 rfl rfl)
theorem dX5_undo_71 : decode cX5_undo 71 = .ok (.ireturn, 1) := dk_172 (dk_at dksX5_undo_3 3 rfl rfl)
abbrev cX5_is : ByteArray := prog_16_method_4_code
def yX5_is : MethodName := ⟨RX5, "is", "(Z)Z"⟩
def dkwX5_is_0 : List UInt8 := [42, 27, 153, 0, 7, 3, 167, 0, 4, 4, 181, 0, 80, 27, 172]
abbrev dktX5_is_0 : List UInt8 := dkwX5_is_0 ++ []
theorem dksX5_is_0 : cX5_is.data.toList.drop 0 = dktX5_is_0 := by decide +kernel
theorem dX5_is_0 : decode cX5_is 0 = .ok (.aload_n 0, 1) := dk_42 (dk_at dksX5_is_0 0 rfl rfl)
theorem dX5_is_1 : decode cX5_is 1 = .ok (.iload_n 1, 1) := dk_27 (dk_at dksX5_is_0 1 rfl rfl)
theorem dX5_is_2 : decode cX5_is 2 = .ok (.ifCond .eq 7, 3) := dk_153 0 7 (dk_at dksX5_is_0 2 rfl rfl)
theorem dX5_is_5 : decode cX5_is 5 = .ok (.iconst 0, 1) := dk_3 (dk_at dksX5_is_0 5 rfl rfl)
theorem dX5_is_6 : decode cX5_is 6 = .ok (.goto 4, 3) := dk_167 0 4 (dk_at dksX5_is_0 6 rfl rfl)
theorem dX5_is_9 : decode cX5_is 9 = .ok (.iconst 1, 1) := dk_4 (dk_at dksX5_is_0 9 rfl rfl)
theorem dX5_is_10 : decode cX5_is 10 = .ok (.putfield 80, 3) := dk_181 0 80 (dk_at dksX5_is_0 10 rfl rfl)
theorem dX5_is_13 : decode cX5_is 13 = .ok (.iload_n 1, 1) := dk_27 (dk_at dksX5_is_0 13 rfl rfl)
theorem dX5_is_14 : decode cX5_is 14 = .ok (.ireturn, 1) := dk_172 (dk_at dksX5_is_0 14 rfl rfl)
abbrev cX5_gate : ByteArray := prog_16_method_29_code
def yX5_gate : MethodName := ⟨RX5, "gate", "(III)I"⟩
def dkwX5_gate_4 : List UInt8 := [42, 27, 28, 29, 182, 0, 157, 42, 182, 0, 160, 42, 182, 0, 163, 172]
abbrev dktX5_gate_4 : List UInt8 := dkwX5_gate_4 ++ []
def dkwX5_gate_3 : List UInt8 := [167, 0, 4, 3, 5, 182, 0, 147, 154, 0, 5, 3, 172, 42, 182, 0, 151, 42, 27, 28, 29, 182, 0, 154]
abbrev dktX5_gate_3 : List UInt8 := dkwX5_gate_3 ++ dktX5_gate_4
def dkwX5_gate_2 : List UInt8 := [133, 9, 20, 0, 141, 184, 0, 135, 153, 0, 17, 21, 4, 153, 0, 8, 28, 29, 159, 0, 7, 4]
abbrev dktX5_gate_2 : List UInt8 := dkwX5_gate_2 ++ dktX5_gate_3
def dkwX5_gate_1 : List UInt8 := [153, 0, 11, 42, 29, 182, 0, 143, 153, 0, 7, 4, 167, 0, 4, 3, 182, 0, 87, 153, 0, 38, 42, 27]
abbrev dktX5_gate_1 : List UInt8 := dkwX5_gate_1 ++ dktX5_gate_2
def dkwX5_gate_0 : List UInt8 := [27, 133, 20, 0, 139, 20, 0, 141, 184, 0, 135, 54, 4, 42, 42, 28, 182, 0, 143, 153, 0, 20, 21, 4]
abbrev dktX5_gate_0 : List UInt8 := dkwX5_gate_0 ++ dktX5_gate_1
theorem dksX5_gate_0 : cX5_gate.data.toList.drop 0 = dktX5_gate_0 := by decide +kernel
theorem dksX5_gate_1 : cX5_gate.data.toList.drop 24 = dktX5_gate_1 := dk_seg dksX5_gate_0 24 rfl rfl
theorem dksX5_gate_2 : cX5_gate.data.toList.drop 48 = dktX5_gate_2 := dk_seg dksX5_gate_1 24 rfl rfl
theorem dksX5_gate_3 : cX5_gate.data.toList.drop 70 = dktX5_gate_3 := dk_seg dksX5_gate_2 22 rfl rfl
theorem dksX5_gate_4 : cX5_gate.data.toList.drop 94 = dktX5_gate_4 := dk_seg dksX5_gate_3 24 rfl rfl
theorem dX5_gate_0 : decode cX5_gate 0 = .ok (.iload_n 1, 1) := dk_27 (dk_at dksX5_gate_0 0 rfl rfl)
theorem dX5_gate_1 : decode cX5_gate 1 = .ok (.i2l, 1) := dk_133 (dk_at dksX5_gate_0 1 rfl rfl)
theorem dX5_gate_2 : decode cX5_gate 2 = .ok (.ldc2_w 139, 3) := dk_20 0 139 (dk_at dksX5_gate_0 2 rfl rfl)
theorem dX5_gate_5 : decode cX5_gate 5 = .ok (.ldc2_w 141, 3) := dk_20 0 141 (dk_at dksX5_gate_0 5 rfl rfl)
theorem dX5_gate_8 : decode cX5_gate 8 = .ok (.invokestatic 135, 3) := dk_184 0 135 (dk_at dksX5_gate_0 8 rfl rfl)
theorem dX5_gate_11 : decode cX5_gate 11 = .ok (.istore 4, 2) := dk_54 4 (dk_at dksX5_gate_0 11 rfl rfl)
theorem dX5_gate_13 : decode cX5_gate 13 = .ok (.aload_n 0, 1) := dk_42 (dk_at dksX5_gate_0 13 rfl rfl)
theorem dX5_gate_14 : decode cX5_gate 14 = .ok (.aload_n 0, 1) := dk_42 (dk_at dksX5_gate_0 14 rfl rfl)
theorem dX5_gate_15 : decode cX5_gate 15 = .ok (.iload_n 2, 1) := dk_28 (dk_at dksX5_gate_0 15 rfl rfl)
theorem dX5_gate_16 : decode cX5_gate 16 = .ok (.invokevirtual 143, 3) := dk_182 0 143 (dk_at dksX5_gate_0 16 rfl rfl)
theorem dX5_gate_19 : decode cX5_gate 19 = .ok (.ifCond .eq 20, 3) := dk_153 0 20 (dk_at dksX5_gate_0 19 rfl rfl)
theorem dX5_gate_22 : decode cX5_gate 22 = .ok (.iload 4, 2) := dk_21 4 (dk_at dksX5_gate_0 22 rfl rfl)
theorem dX5_gate_24 : decode cX5_gate 24 = .ok (.ifCond .eq 11, 3) := dk_153 0 11 (dk_at dksX5_gate_1 0 rfl rfl)
theorem dX5_gate_27 : decode cX5_gate 27 = .ok (.aload_n 0, 1) := dk_42 (dk_at dksX5_gate_1 3 rfl rfl)
theorem dX5_gate_28 : decode cX5_gate 28 = .ok (.iload_n 3, 1) := dk_29 (dk_at dksX5_gate_1 4 rfl rfl)
theorem dX5_gate_29 : decode cX5_gate 29 = .ok (.invokevirtual 143, 3) := dk_182 0 143 (dk_at dksX5_gate_1 5 rfl rfl)
theorem dX5_gate_32 : decode cX5_gate 32 = .ok (.ifCond .eq 7, 3) := dk_153 0 7 (dk_at dksX5_gate_1 8 rfl rfl)
theorem dX5_gate_35 : decode cX5_gate 35 = .ok (.iconst 1, 1) := dk_4 (dk_at dksX5_gate_1 11 rfl rfl)
theorem dX5_gate_36 : decode cX5_gate 36 = .ok (.goto 4, 3) := dk_167 0 4 (dk_at dksX5_gate_1 12 rfl rfl)
theorem dX5_gate_39 : decode cX5_gate 39 = .ok (.iconst 0, 1) := dk_3 (dk_at dksX5_gate_1 15 rfl rfl)
theorem dX5_gate_40 : decode cX5_gate 40 = .ok (.invokevirtual 87, 3) := dk_182 0 87 (dk_at dksX5_gate_1 16 rfl rfl)
theorem dX5_gate_43 : decode cX5_gate 43 = .ok (.ifCond .eq 38, 3) := dk_153 0 38 (dk_at dksX5_gate_1 19 rfl rfl)
theorem dX5_gate_46 : decode cX5_gate 46 = .ok (.aload_n 0, 1) := dk_42 (dk_at dksX5_gate_1 22 rfl rfl)
theorem dX5_gate_47 : decode cX5_gate 47 = .ok (.iload_n 1, 1) := dk_27 (dk_at dksX5_gate_1 23 rfl rfl)
theorem dX5_gate_48 : decode cX5_gate 48 = .ok (.i2l, 1) := dk_133 (dk_at dksX5_gate_2 0 rfl rfl)
theorem dX5_gate_49 : decode cX5_gate 49 = .ok (.lconst 0, 1) := dk_9 (dk_at dksX5_gate_2 1 rfl rfl)
theorem dX5_gate_50 : decode cX5_gate 50 = .ok (.ldc2_w 141, 3) := dk_20 0 141 (dk_at dksX5_gate_2 2 rfl rfl)
theorem dX5_gate_53 : decode cX5_gate 53 = .ok (.invokestatic 135, 3) := dk_184 0 135 (dk_at dksX5_gate_2 5 rfl rfl)
theorem dX5_gate_56 : decode cX5_gate 56 = .ok (.ifCond .eq 17, 3) := dk_153 0 17 (dk_at dksX5_gate_2 8 rfl rfl)
theorem dX5_gate_59 : decode cX5_gate 59 = .ok (.iload 4, 2) := dk_21 4 (dk_at dksX5_gate_2 11 rfl rfl)
theorem dX5_gate_61 : decode cX5_gate 61 = .ok (.ifCond .eq 8, 3) := dk_153 0 8 (dk_at dksX5_gate_2 13 rfl rfl)
theorem dX5_gate_64 : decode cX5_gate 64 = .ok (.iload_n 2, 1) := dk_28 (dk_at dksX5_gate_2 16 rfl rfl)
theorem dX5_gate_65 : decode cX5_gate 65 = .ok (.iload_n 3, 1) := dk_29 (dk_at dksX5_gate_2 17 rfl rfl)
theorem dX5_gate_66 : decode cX5_gate 66 = .ok (.if_icmp .eq 7, 3) := dk_159 0 7 (dk_at dksX5_gate_2 18 rfl rfl)
theorem dX5_gate_69 : decode cX5_gate 69 = .ok (.iconst 1, 1) := dk_4 (dk_at dksX5_gate_2 21 rfl rfl)
theorem dX5_gate_70 : decode cX5_gate 70 = .ok (.goto 4, 3) := dk_167 0 4 (dk_at dksX5_gate_3 0 rfl rfl)
theorem dX5_gate_73 : decode cX5_gate 73 = .ok (.iconst 0, 1) := dk_3 (dk_at dksX5_gate_3 3 rfl rfl)
theorem dX5_gate_74 : decode cX5_gate 74 = .ok (.iconst 2, 1) := dk_5 (dk_at dksX5_gate_3 4 rfl rfl)
theorem dX5_gate_75 : decode cX5_gate 75 = .ok (.invokevirtual 147, 3) := dk_182 0 147 (dk_at dksX5_gate_3 5 rfl rfl)
theorem dX5_gate_78 : decode cX5_gate 78 = .ok (.ifCond .ne 5, 3) := dk_154 0 5 (dk_at dksX5_gate_3 8 rfl rfl)
theorem dX5_gate_81 : decode cX5_gate 81 = .ok (.iconst 0, 1) := dk_3 (dk_at dksX5_gate_3 11 rfl rfl)
theorem dX5_gate_82 : decode cX5_gate 82 = .ok (.ireturn, 1) := dk_172 (dk_at dksX5_gate_3 12 rfl rfl)
theorem dX5_gate_83 : decode cX5_gate 83 = .ok (.aload_n 0, 1) := dk_42 (dk_at dksX5_gate_3 13 rfl rfl)
theorem dX5_gate_84 : decode cX5_gate 84 = .ok (.invokevirtual 151, 3) := dk_182 0 151 (dk_at dksX5_gate_3 14 rfl rfl)
theorem dX5_gate_87 : decode cX5_gate 87 = .ok (.aload_n 0, 1) := dk_42 (dk_at dksX5_gate_3 17 rfl rfl)
theorem dX5_gate_88 : decode cX5_gate 88 = .ok (.iload_n 1, 1) := dk_27 (dk_at dksX5_gate_3 18 rfl rfl)
theorem dX5_gate_89 : decode cX5_gate 89 = .ok (.iload_n 2, 1) := dk_28 (dk_at dksX5_gate_3 19 rfl rfl)
theorem dX5_gate_90 : decode cX5_gate 90 = .ok (.iload_n 3, 1) := dk_29 (dk_at dksX5_gate_3 20 rfl rfl)
theorem dX5_gate_91 : decode cX5_gate 91 = .ok (.invokevirtual 154, 3) := dk_182 0 154 (dk_at dksX5_gate_3 21 rfl rfl)
theorem dX5_gate_94 : decode cX5_gate 94 = .ok (.aload_n 0, 1) := dk_42 (dk_at dksX5_gate_4 0 rfl rfl)
theorem dX5_gate_95 : decode cX5_gate 95 = .ok (.iload_n 1, 1) := dk_27 (dk_at dksX5_gate_4 1 rfl rfl)
theorem dX5_gate_96 : decode cX5_gate 96 = .ok (.iload_n 2, 1) := dk_28 (dk_at dksX5_gate_4 2 rfl rfl)
theorem dX5_gate_97 : decode cX5_gate 97 = .ok (.iload_n 3, 1) := dk_29 (dk_at dksX5_gate_4 3 rfl rfl)
theorem dX5_gate_98 : decode cX5_gate 98 = .ok (.invokevirtual 157, 3) := dk_182 0 157 (dk_at dksX5_gate_4 4 rfl rfl)
theorem dX5_gate_101 : decode cX5_gate 101 = .ok (.aload_n 0, 1) := dk_42 (dk_at dksX5_gate_4 7 rfl rfl)
theorem dX5_gate_102 : decode cX5_gate 102 = .ok (.invokevirtual 160, 3) := dk_182 0 160 (dk_at dksX5_gate_4 8 rfl rfl)
theorem dX5_gate_105 : decode cX5_gate 105 = .ok (.aload_n 0, 1) := dk_42 (dk_at dksX5_gate_4 11 rfl rfl)
theorem dX5_gate_106 : decode cX5_gate 106 = .ok (.invokevirtual 163, 3) := dk_182 0 163 (dk_at dksX5_gate_4 12 rfl rfl)
theorem dX5_gate_109 : decode cX5_gate 109 = .ok (.ireturn, 1) := dk_172 (dk_at dksX5_gate_4 15 rfl rfl)
abbrev cX5_isIn : ByteArray := prog_16_method_6_code
def yX5_isIn : MethodName := ⟨RX5, "isIn", "(JJJ)Z"⟩
def dkwX5_isIn_0 : List UInt8 := [30, 32, 148, 155, 0, 14, 30, 22, 4, 148, 157, 0, 7, 4, 167, 0, 4, 3, 172]
abbrev dktX5_isIn_0 : List UInt8 := dkwX5_isIn_0 ++ []
theorem dksX5_isIn_0 : cX5_isIn.data.toList.drop 0 = dktX5_isIn_0 := by decide +kernel
theorem dX5_isIn_0 : decode cX5_isIn 0 = .ok (.lload_n 0, 1) := dk_30 (dk_at dksX5_isIn_0 0 rfl rfl)
theorem dX5_isIn_1 : decode cX5_isIn 1 = .ok (.lload_n 2, 1) := dk_32 (dk_at dksX5_isIn_0 1 rfl rfl)
theorem dX5_isIn_2 : decode cX5_isIn 2 = .ok (.lcmp, 1) := dk_148 (dk_at dksX5_isIn_0 2 rfl rfl)
theorem dX5_isIn_3 : decode cX5_isIn 3 = .ok (.ifCond .lt 14, 3) := dk_155 0 14 (dk_at dksX5_isIn_0 3 rfl rfl)
theorem dX5_isIn_6 : decode cX5_isIn 6 = .ok (.lload_n 0, 1) := dk_30 (dk_at dksX5_isIn_0 6 rfl rfl)
theorem dX5_isIn_7 : decode cX5_isIn 7 = .ok (.lload 4, 2) := dk_22 4 (dk_at dksX5_isIn_0 7 rfl rfl)
theorem dX5_isIn_9 : decode cX5_isIn 9 = .ok (.lcmp, 1) := dk_148 (dk_at dksX5_isIn_0 9 rfl rfl)
theorem dX5_isIn_10 : decode cX5_isIn 10 = .ok (.ifCond .gt 7, 3) := dk_157 0 7 (dk_at dksX5_isIn_0 10 rfl rfl)
theorem dX5_isIn_13 : decode cX5_isIn 13 = .ok (.iconst 1, 1) := dk_4 (dk_at dksX5_isIn_0 13 rfl rfl)
theorem dX5_isIn_14 : decode cX5_isIn 14 = .ok (.goto 4, 3) := dk_167 0 4 (dk_at dksX5_isIn_0 14 rfl rfl)
theorem dX5_isIn_17 : decode cX5_isIn 17 = .ok (.iconst 0, 1) := dk_3 (dk_at dksX5_isIn_0 17 rfl rfl)
theorem dX5_isIn_18 : decode cX5_isIn 18 = .ok (.ireturn, 1) := dk_172 (dk_at dksX5_isIn_0 18 rfl rfl)
abbrev cX5_isQubit : ByteArray := prog_16_method_28_code
def yX5_isQubit : MethodName := ⟨RX5, "isQubit", "(I)Z"⟩
def dkwX5_isQubit_0 : List UInt8 := [27, 133, 9, 42, 180, 0, 7, 3, 46, 4, 100, 133, 184, 0, 135, 172]
abbrev dktX5_isQubit_0 : List UInt8 := dkwX5_isQubit_0 ++ []
theorem dksX5_isQubit_0 : cX5_isQubit.data.toList.drop 0 = dktX5_isQubit_0 := by decide +kernel
theorem dX5_isQubit_0 : decode cX5_isQubit 0 = .ok (.iload_n 1, 1) := dk_27 (dk_at dksX5_isQubit_0 0 rfl rfl)
theorem dX5_isQubit_1 : decode cX5_isQubit 1 = .ok (.i2l, 1) := dk_133 (dk_at dksX5_isQubit_0 1 rfl rfl)
theorem dX5_isQubit_2 : decode cX5_isQubit 2 = .ok (.lconst 0, 1) := dk_9 (dk_at dksX5_isQubit_0 2 rfl rfl)
theorem dX5_isQubit_3 : decode cX5_isQubit 3 = .ok (.aload_n 0, 1) := dk_42 (dk_at dksX5_isQubit_0 3 rfl rfl)
theorem dX5_isQubit_4 : decode cX5_isQubit 4 = .ok (.getfield 7, 3) := dk_180 0 7 (dk_at dksX5_isQubit_0 4 rfl rfl)
theorem dX5_isQubit_7 : decode cX5_isQubit 7 = .ok (.iconst 0, 1) := dk_3 (dk_at dksX5_isQubit_0 7 rfl rfl)
theorem dX5_isQubit_8 : decode cX5_isQubit 8 = .ok (.iaload, 1) := dk_46 (dk_at dksX5_isQubit_0 8 rfl rfl)
theorem dX5_isQubit_9 : decode cX5_isQubit 9 = .ok (.iconst 1, 1) := dk_4 (dk_at dksX5_isQubit_0 9 rfl rfl)
theorem dX5_isQubit_10 : decode cX5_isQubit 10 = .ok (.isub, 1) := dk_100 (dk_at dksX5_isQubit_0 10 rfl rfl)
theorem dX5_isQubit_11 : decode cX5_isQubit 11 = .ok (.i2l, 1) := dk_133 (dk_at dksX5_isQubit_0 11 rfl rfl)
theorem dX5_isQubit_12 : decode cX5_isQubit 12 = .ok (.invokestatic 135, 3) := dk_184 0 135 (dk_at dksX5_isQubit_0 12 rfl rfl)
theorem dX5_isQubit_15 : decode cX5_isQubit 15 = .ok (.ireturn, 1) := dk_172 (dk_at dksX5_isQubit_0 15 rfl rfl)
abbrev cX5_may : ByteArray := prog_16_method_5_code
def yX5_may : MethodName := ⟨RX5, "may", "(ZI)Z"⟩
def dkwX5_may_0 : List UInt8 := [42, 27, 153, 0, 7, 3, 167, 0, 4, 28, 181, 0, 80, 27, 172]
abbrev dktX5_may_0 : List UInt8 := dkwX5_may_0 ++ []
theorem dksX5_may_0 : cX5_may.data.toList.drop 0 = dktX5_may_0 := by decide +kernel
theorem dX5_may_0 : decode cX5_may 0 = .ok (.aload_n 0, 1) := dk_42 (dk_at dksX5_may_0 0 rfl rfl)
theorem dX5_may_1 : decode cX5_may 1 = .ok (.iload_n 1, 1) := dk_27 (dk_at dksX5_may_0 1 rfl rfl)
theorem dX5_may_2 : decode cX5_may 2 = .ok (.ifCond .eq 7, 3) := dk_153 0 7 (dk_at dksX5_may_0 2 rfl rfl)
theorem dX5_may_5 : decode cX5_may 5 = .ok (.iconst 0, 1) := dk_3 (dk_at dksX5_may_0 5 rfl rfl)
theorem dX5_may_6 : decode cX5_may 6 = .ok (.goto 4, 3) := dk_167 0 4 (dk_at dksX5_may_0 6 rfl rfl)
theorem dX5_may_9 : decode cX5_may 9 = .ok (.iload_n 2, 1) := dk_28 (dk_at dksX5_may_0 9 rfl rfl)
theorem dX5_may_10 : decode cX5_may 10 = .ok (.putfield 80, 3) := dk_181 0 80 (dk_at dksX5_may_0 10 rfl rfl)
theorem dX5_may_13 : decode cX5_may 13 = .ok (.iload_n 1, 1) := dk_27 (dk_at dksX5_may_0 13 rfl rfl)
theorem dX5_may_14 : decode cX5_may 14 = .ok (.ireturn, 1) := dk_172 (dk_at dksX5_may_0 14 rfl rfl)
abbrev cX5_starts : ByteArray := prog_16_method_11_code
def yX5_starts : MethodName := ⟨RX5, "starts", "()V"⟩
def dkwX5_starts_0 : List UInt8 := [42, 180, 0, 7, 42, 180, 0, 13, 184, 0, 83, 177]
abbrev dktX5_starts_0 : List UInt8 := dkwX5_starts_0 ++ []
theorem dksX5_starts_0 : cX5_starts.data.toList.drop 0 = dktX5_starts_0 := by decide +kernel
theorem dX5_starts_0 : decode cX5_starts 0 = .ok (.aload_n 0, 1) := dk_42 (dk_at dksX5_starts_0 0 rfl rfl)
theorem dX5_starts_1 : decode cX5_starts 1 = .ok (.getfield 7, 3) := dk_180 0 7 (dk_at dksX5_starts_0 1 rfl rfl)
theorem dX5_starts_4 : decode cX5_starts 4 = .ok (.aload_n 0, 1) := dk_42 (dk_at dksX5_starts_0 4 rfl rfl)
theorem dX5_starts_5 : decode cX5_starts 5 = .ok (.getfield 13, 3) := dk_180 0 13 (dk_at dksX5_starts_0 5 rfl rfl)
theorem dX5_starts_8 : decode cX5_starts 8 = .ok (.invokestatic 83, 3) := dk_184 0 83 (dk_at dksX5_starts_0 8 rfl rfl)
theorem dX5_starts_11 : decode cX5_starts 11 = .ok (.return_, 1) := dk_177 (dk_at dksX5_starts_0 11 rfl rfl)
abbrev cX5_copies : ByteArray := prog_16_method_9_code
def yX5_copies : MethodName := ⟨RX5, "copies", "([I[I)V"⟩
def dkwX5_copies_0 : List UInt8 := [3, 61, 28, 17, 2, 18, 162, 0, 15, 43, 28, 42, 28, 46, 79, 132, 2, 1, 167, 255, 240, 177]
abbrev dktX5_copies_0 : List UInt8 := dkwX5_copies_0 ++ []
theorem dksX5_copies_0 : cX5_copies.data.toList.drop 0 = dktX5_copies_0 := by decide +kernel
theorem dX5_copies_0 : decode cX5_copies 0 = .ok (.iconst 0, 1) := dk_3 (dk_at dksX5_copies_0 0 rfl rfl)
theorem dX5_copies_1 : decode cX5_copies 1 = .ok (.istore_n 2, 1) := dk_61 (dk_at dksX5_copies_0 1 rfl rfl)
theorem dX5_copies_2 : decode cX5_copies 2 = .ok (.iload_n 2, 1) := dk_28 (dk_at dksX5_copies_0 2 rfl rfl)
theorem dX5_copies_3 : decode cX5_copies 3 = .ok (.sipush 530, 3) := dk_17 2 18 (dk_at dksX5_copies_0 3 rfl rfl)
theorem dX5_copies_6 : decode cX5_copies 6 = .ok (.if_icmp .ge 15, 3) := dk_162 0 15 (dk_at dksX5_copies_0 6 rfl rfl)
theorem dX5_copies_9 : decode cX5_copies 9 = .ok (.aload_n 1, 1) := dk_43 (dk_at dksX5_copies_0 9 rfl rfl)
theorem dX5_copies_10 : decode cX5_copies 10 = .ok (.iload_n 2, 1) := dk_28 (dk_at dksX5_copies_0 10 rfl rfl)
theorem dX5_copies_11 : decode cX5_copies 11 = .ok (.aload_n 0, 1) := dk_42 (dk_at dksX5_copies_0 11 rfl rfl)
theorem dX5_copies_12 : decode cX5_copies 12 = .ok (.iload_n 2, 1) := dk_28 (dk_at dksX5_copies_0 12 rfl rfl)
theorem dX5_copies_13 : decode cX5_copies 13 = .ok (.iaload, 1) := dk_46 (dk_at dksX5_copies_0 13 rfl rfl)
theorem dX5_copies_14 : decode cX5_copies 14 = .ok (.iastore, 1) := dk_79 (dk_at dksX5_copies_0 14 rfl rfl)
theorem dX5_copies_15 : decode cX5_copies 15 = .ok (.iinc 2 1, 3) := dk_132 2 1 (dk_at dksX5_copies_0 15 rfl rfl)
theorem dX5_copies_18 : decode cX5_copies 18 = .ok (.goto (-16), 3) := dk_167 255 240 (dk_at dksX5_copies_0 18 rfl rfl)
theorem dX5_copies_21 : decode cX5_copies 21 = .ok (.return_, 1) := dk_177 (dk_at dksX5_copies_0 21 rfl rfl)
abbrev cX5_goes : ByteArray := prog_16_method_26_code
def yX5_goes : MethodName := ⟨RX5, "goes", "(III)V"⟩
def dkwX5_goes_2 : List UInt8 := [6, 46, 4, 96, 79, 177]
abbrev dktX5_goes_2 : List UInt8 := dkwX5_goes_2 ++ []
def dkwX5_goes_1 : List UInt8 := [182, 0, 132, 42, 21, 4, 182, 0, 123, 132, 4, 1, 167, 255, 223, 42, 180, 0, 7, 6, 42, 180, 0, 7]
abbrev dktX5_goes_1 : List UInt8 := dkwX5_goes_1 ++ dktX5_goes_2
def dkwX5_goes_0 : List UInt8 := [3, 54, 4, 21, 4, 42, 180, 0, 7, 3, 46, 162, 0, 28, 42, 21, 4, 182, 0, 116, 42, 27, 28, 29]
abbrev dktX5_goes_0 : List UInt8 := dkwX5_goes_0 ++ dktX5_goes_1
theorem dksX5_goes_0 : cX5_goes.data.toList.drop 0 = dktX5_goes_0 := by decide +kernel
theorem dksX5_goes_1 : cX5_goes.data.toList.drop 24 = dktX5_goes_1 := dk_seg dksX5_goes_0 24 rfl rfl
theorem dksX5_goes_2 : cX5_goes.data.toList.drop 48 = dktX5_goes_2 := dk_seg dksX5_goes_1 24 rfl rfl
theorem dX5_goes_0 : decode cX5_goes 0 = .ok (.iconst 0, 1) := dk_3 (dk_at dksX5_goes_0 0 rfl rfl)
theorem dX5_goes_1 : decode cX5_goes 1 = .ok (.istore 4, 2) := dk_54 4 (dk_at dksX5_goes_0 1 rfl rfl)
theorem dX5_goes_3 : decode cX5_goes 3 = .ok (.iload 4, 2) := dk_21 4 (dk_at dksX5_goes_0 3 rfl rfl)
theorem dX5_goes_5 : decode cX5_goes 5 = .ok (.aload_n 0, 1) := dk_42 (dk_at dksX5_goes_0 5 rfl rfl)
theorem dX5_goes_6 : decode cX5_goes 6 = .ok (.getfield 7, 3) := dk_180 0 7 (dk_at dksX5_goes_0 6 rfl rfl)
theorem dX5_goes_9 : decode cX5_goes 9 = .ok (.iconst 0, 1) := dk_3 (dk_at dksX5_goes_0 9 rfl rfl)
theorem dX5_goes_10 : decode cX5_goes 10 = .ok (.iaload, 1) := dk_46 (dk_at dksX5_goes_0 10 rfl rfl)
theorem dX5_goes_11 : decode cX5_goes 11 = .ok (.if_icmp .ge 28, 3) := dk_162 0 28 (dk_at dksX5_goes_0 11 rfl rfl)
theorem dX5_goes_14 : decode cX5_goes 14 = .ok (.aload_n 0, 1) := dk_42 (dk_at dksX5_goes_0 14 rfl rfl)
theorem dX5_goes_15 : decode cX5_goes 15 = .ok (.iload 4, 2) := dk_21 4 (dk_at dksX5_goes_0 15 rfl rfl)
theorem dX5_goes_17 : decode cX5_goes 17 = .ok (.invokevirtual 116, 3) := dk_182 0 116 (dk_at dksX5_goes_0 17 rfl rfl)
theorem dX5_goes_20 : decode cX5_goes 20 = .ok (.aload_n 0, 1) := dk_42 (dk_at dksX5_goes_0 20 rfl rfl)
theorem dX5_goes_21 : decode cX5_goes 21 = .ok (.iload_n 1, 1) := dk_27 (dk_at dksX5_goes_0 21 rfl rfl)
theorem dX5_goes_22 : decode cX5_goes 22 = .ok (.iload_n 2, 1) := dk_28 (dk_at dksX5_goes_0 22 rfl rfl)
theorem dX5_goes_23 : decode cX5_goes 23 = .ok (.iload_n 3, 1) := dk_29 (dk_at dksX5_goes_0 23 rfl rfl)
theorem dX5_goes_24 : decode cX5_goes 24 = .ok (.invokevirtual 132, 3) := dk_182 0 132 (dk_at dksX5_goes_1 0 rfl rfl)
theorem dX5_goes_27 : decode cX5_goes 27 = .ok (.aload_n 0, 1) := dk_42 (dk_at dksX5_goes_1 3 rfl rfl)
theorem dX5_goes_28 : decode cX5_goes 28 = .ok (.iload 4, 2) := dk_21 4 (dk_at dksX5_goes_1 4 rfl rfl)
theorem dX5_goes_30 : decode cX5_goes 30 = .ok (.invokevirtual 123, 3) := dk_182 0 123 (dk_at dksX5_goes_1 6 rfl rfl)
theorem dX5_goes_33 : decode cX5_goes 33 = .ok (.iinc 4 1, 3) := dk_132 4 1 (dk_at dksX5_goes_1 9 rfl rfl)
theorem dX5_goes_36 : decode cX5_goes 36 = .ok (.goto (-33), 3) := dk_167 255 223 (dk_at dksX5_goes_1 12 rfl rfl)
theorem dX5_goes_39 : decode cX5_goes 39 = .ok (.aload_n 0, 1) := dk_42 (dk_at dksX5_goes_1 15 rfl rfl)
theorem dX5_goes_40 : decode cX5_goes 40 = .ok (.getfield 7, 3) := dk_180 0 7 (dk_at dksX5_goes_1 16 rfl rfl)
theorem dX5_goes_43 : decode cX5_goes 43 = .ok (.iconst 3, 1) := dk_6 (dk_at dksX5_goes_1 19 rfl rfl)
theorem dX5_goes_44 : decode cX5_goes 44 = .ok (.aload_n 0, 1) := dk_42 (dk_at dksX5_goes_1 20 rfl rfl)
theorem dX5_goes_45 : decode cX5_goes 45 = .ok (.getfield 7, 3) := dk_180 0 7 (dk_at dksX5_goes_1 21 rfl rfl)
theorem dX5_goes_48 : decode cX5_goes 48 = .ok (.iconst 3, 1) := dk_6 (dk_at dksX5_goes_2 0 rfl rfl)
theorem dX5_goes_49 : decode cX5_goes 49 = .ok (.iaload, 1) := dk_46 (dk_at dksX5_goes_2 1 rfl rfl)
theorem dX5_goes_50 : decode cX5_goes 50 = .ok (.iconst 1, 1) := dk_4 (dk_at dksX5_goes_2 2 rfl rfl)
theorem dX5_goes_51 : decode cX5_goes 51 = .ok (.iadd, 1) := dk_96 (dk_at dksX5_goes_2 3 rfl rfl)
theorem dX5_goes_52 : decode cX5_goes 52 = .ok (.iastore, 1) := dk_79 (dk_at dksX5_goes_2 4 rfl rfl)
theorem dX5_goes_53 : decode cX5_goes 53 = .ok (.return_, 1) := dk_177 (dk_at dksX5_goes_2 5 rfl rfl)
abbrev cX5_takesRow : ByteArray := prog_16_method_19_code
def yX5_takesRow : MethodName := ⟨RX5, "takesRow", "(I)V"⟩
def dkwX5_takesRow_1 : List UInt8 := [16, 22, 27, 96, 46, 182, 0, 112, 177]
abbrev dktX5_takesRow_1 : List UInt8 := dkwX5_takesRow_1 ++ []
def dkwX5_takesRow_0 : List UInt8 := [42, 42, 180, 0, 7, 16, 6, 27, 96, 46, 42, 180, 0, 7, 16, 14, 27, 96, 46, 42, 180, 0, 7]
abbrev dktX5_takesRow_0 : List UInt8 := dkwX5_takesRow_0 ++ dktX5_takesRow_1
theorem dksX5_takesRow_0 : cX5_takesRow.data.toList.drop 0 = dktX5_takesRow_0 := by decide +kernel
theorem dksX5_takesRow_1 : cX5_takesRow.data.toList.drop 23 = dktX5_takesRow_1 := dk_seg dksX5_takesRow_0 23 rfl rfl
theorem dX5_takesRow_0 : decode cX5_takesRow 0 = .ok (.aload_n 0, 1) := dk_42 (dk_at dksX5_takesRow_0 0 rfl rfl)
theorem dX5_takesRow_1 : decode cX5_takesRow 1 = .ok (.aload_n 0, 1) := dk_42 (dk_at dksX5_takesRow_0 1 rfl rfl)
theorem dX5_takesRow_2 : decode cX5_takesRow 2 = .ok (.getfield 7, 3) := dk_180 0 7 (dk_at dksX5_takesRow_0 2 rfl rfl)
theorem dX5_takesRow_5 : decode cX5_takesRow 5 = .ok (.bipush 6, 2) := dk_16 6 (dk_at dksX5_takesRow_0 5 rfl rfl)
theorem dX5_takesRow_7 : decode cX5_takesRow 7 = .ok (.iload_n 1, 1) := dk_27 (dk_at dksX5_takesRow_0 7 rfl rfl)
theorem dX5_takesRow_8 : decode cX5_takesRow 8 = .ok (.iadd, 1) := dk_96 (dk_at dksX5_takesRow_0 8 rfl rfl)
theorem dX5_takesRow_9 : decode cX5_takesRow 9 = .ok (.iaload, 1) := dk_46 (dk_at dksX5_takesRow_0 9 rfl rfl)
theorem dX5_takesRow_10 : decode cX5_takesRow 10 = .ok (.aload_n 0, 1) := dk_42 (dk_at dksX5_takesRow_0 10 rfl rfl)
theorem dX5_takesRow_11 : decode cX5_takesRow 11 = .ok (.getfield 7, 3) := dk_180 0 7 (dk_at dksX5_takesRow_0 11 rfl rfl)
theorem dX5_takesRow_14 : decode cX5_takesRow 14 = .ok (.bipush 14, 2) := dk_16 14 (dk_at dksX5_takesRow_0 14 rfl rfl)
theorem dX5_takesRow_16 : decode cX5_takesRow 16 = .ok (.iload_n 1, 1) := dk_27 (dk_at dksX5_takesRow_0 16 rfl rfl)
theorem dX5_takesRow_17 : decode cX5_takesRow 17 = .ok (.iadd, 1) := dk_96 (dk_at dksX5_takesRow_0 17 rfl rfl)
theorem dX5_takesRow_18 : decode cX5_takesRow 18 = .ok (.iaload, 1) := dk_46 (dk_at dksX5_takesRow_0 18 rfl rfl)
theorem dX5_takesRow_19 : decode cX5_takesRow 19 = .ok (.aload_n 0, 1) := dk_42 (dk_at dksX5_takesRow_0 19 rfl rfl)
theorem dX5_takesRow_20 : decode cX5_takesRow 20 = .ok (.getfield 7, 3) := dk_180 0 7 (dk_at dksX5_takesRow_0 20 rfl rfl)
theorem dX5_takesRow_23 : decode cX5_takesRow 23 = .ok (.bipush 22, 2) := dk_16 22 (dk_at dksX5_takesRow_1 0 rfl rfl)
theorem dX5_takesRow_25 : decode cX5_takesRow 25 = .ok (.iload_n 1, 1) := dk_27 (dk_at dksX5_takesRow_1 2 rfl rfl)
theorem dX5_takesRow_26 : decode cX5_takesRow 26 = .ok (.iadd, 1) := dk_96 (dk_at dksX5_takesRow_1 3 rfl rfl)
theorem dX5_takesRow_27 : decode cX5_takesRow 27 = .ok (.iaload, 1) := dk_46 (dk_at dksX5_takesRow_1 4 rfl rfl)
theorem dX5_takesRow_28 : decode cX5_takesRow 28 = .ok (.invokevirtual 112, 3) := dk_182 0 112 (dk_at dksX5_takesRow_1 5 rfl rfl)
theorem dX5_takesRow_31 : decode cX5_takesRow 31 = .ok (.return_, 1) := dk_177 (dk_at dksX5_takesRow_1 8 rfl rfl)
abbrev cX5_takes : ByteArray := prog_16_method_17_code
def yX5_takes : MethodName := ⟨RX5, "takes", "(III)V"⟩
def dkwX5_takes_0 : List UInt8 := [42, 27, 181, 0, 99, 42, 28, 181, 0, 102, 42, 29, 181, 0, 105, 177]
abbrev dktX5_takes_0 : List UInt8 := dkwX5_takes_0 ++ []
theorem dksX5_takes_0 : cX5_takes.data.toList.drop 0 = dktX5_takes_0 := by decide +kernel
theorem dX5_takes_0 : decode cX5_takes 0 = .ok (.aload_n 0, 1) := dk_42 (dk_at dksX5_takes_0 0 rfl rfl)
theorem dX5_takes_1 : decode cX5_takes 1 = .ok (.iload_n 1, 1) := dk_27 (dk_at dksX5_takes_0 1 rfl rfl)
theorem dX5_takes_2 : decode cX5_takes 2 = .ok (.putfield 99, 3) := dk_181 0 99 (dk_at dksX5_takes_0 2 rfl rfl)
theorem dX5_takes_5 : decode cX5_takes 5 = .ok (.aload_n 0, 1) := dk_42 (dk_at dksX5_takes_0 5 rfl rfl)
theorem dX5_takes_6 : decode cX5_takes 6 = .ok (.iload_n 2, 1) := dk_28 (dk_at dksX5_takes_0 6 rfl rfl)
theorem dX5_takes_7 : decode cX5_takes 7 = .ok (.putfield 102, 3) := dk_181 0 102 (dk_at dksX5_takes_0 7 rfl rfl)
theorem dX5_takes_10 : decode cX5_takes 10 = .ok (.aload_n 0, 1) := dk_42 (dk_at dksX5_takes_0 10 rfl rfl)
theorem dX5_takes_11 : decode cX5_takes 11 = .ok (.iload_n 3, 1) := dk_29 (dk_at dksX5_takes_0 11 rfl rfl)
theorem dX5_takes_12 : decode cX5_takes 12 = .ok (.putfield 105, 3) := dk_181 0 105 (dk_at dksX5_takes_0 12 rfl rfl)
theorem dX5_takes_15 : decode cX5_takes 15 = .ok (.return_, 1) := dk_177 (dk_at dksX5_takes_0 15 rfl rfl)
abbrev cX5_does : ByteArray := prog_16_method_24_code
def yX5_does : MethodName := ⟨RX5, "does", "(III)V"⟩
def dkwX5_does_0 : List UInt8 := [27, 16, 6, 162, 0, 12, 42, 27, 28, 182, 0, 126, 167, 0, 10, 42, 27, 28, 29, 182, 0, 129, 177]
abbrev dktX5_does_0 : List UInt8 := dkwX5_does_0 ++ []
theorem dksX5_does_0 : cX5_does.data.toList.drop 0 = dktX5_does_0 := by decide +kernel
theorem dX5_does_0 : decode cX5_does 0 = .ok (.iload_n 1, 1) := dk_27 (dk_at dksX5_does_0 0 rfl rfl)
theorem dX5_does_1 : decode cX5_does 1 = .ok (.bipush 6, 2) := dk_16 6 (dk_at dksX5_does_0 1 rfl rfl)
theorem dX5_does_3 : decode cX5_does 3 = .ok (.if_icmp .ge 12, 3) := dk_162 0 12 (dk_at dksX5_does_0 3 rfl rfl)
theorem dX5_does_6 : decode cX5_does 6 = .ok (.aload_n 0, 1) := dk_42 (dk_at dksX5_does_0 6 rfl rfl)
theorem dX5_does_7 : decode cX5_does 7 = .ok (.iload_n 1, 1) := dk_27 (dk_at dksX5_does_0 7 rfl rfl)
theorem dX5_does_8 : decode cX5_does 8 = .ok (.iload_n 2, 1) := dk_28 (dk_at dksX5_does_0 8 rfl rfl)
theorem dX5_does_9 : decode cX5_does 9 = .ok (.invokevirtual 126, 3) := dk_182 0 126 (dk_at dksX5_does_0 9 rfl rfl)
theorem dX5_does_12 : decode cX5_does 12 = .ok (.goto 10, 3) := dk_167 0 10 (dk_at dksX5_does_0 12 rfl rfl)
theorem dX5_does_15 : decode cX5_does 15 = .ok (.aload_n 0, 1) := dk_42 (dk_at dksX5_does_0 15 rfl rfl)
theorem dX5_does_16 : decode cX5_does 16 = .ok (.iload_n 1, 1) := dk_27 (dk_at dksX5_does_0 16 rfl rfl)
theorem dX5_does_17 : decode cX5_does 17 = .ok (.iload_n 2, 1) := dk_28 (dk_at dksX5_does_0 17 rfl rfl)
theorem dX5_does_18 : decode cX5_does 18 = .ok (.iload_n 3, 1) := dk_29 (dk_at dksX5_does_0 18 rfl rfl)
theorem dX5_does_19 : decode cX5_does 19 = .ok (.invokevirtual 129, 3) := dk_182 0 129 (dk_at dksX5_does_0 19 rfl rfl)
theorem dX5_does_22 : decode cX5_does 22 = .ok (.return_, 1) := dk_177 (dk_at dksX5_does_0 22 rfl rfl)
abbrev cX5_one : ByteArray := prog_16_method_22_code
def yX5_one : MethodName := ⟨RX5, "one", "(II)V"⟩
def dkwX5_one_9 : List UInt8 := [28, 120, 130, 181, 0, 102, 21, 4, 153, 0, 13, 42, 4, 42, 180, 0, 105, 100, 181, 0, 105, 177]
abbrev dktX5_one_9 : List UInt8 := dkwX5_one_9 ++ []
def dkwX5_one_8 : List UInt8 := [159, 0, 8, 27, 5, 160, 0, 25, 29, 4, 159, 0, 8, 29, 5, 160, 0, 15, 42, 42, 180, 0, 102, 4]
abbrev dktX5_one_8 : List UInt8 := dkwX5_one_8 ++ dktX5_one_9
def dkwX5_one_7 : List UInt8 := [180, 0, 99, 4, 28, 120, 130, 181, 0, 99, 42, 42, 180, 0, 102, 4, 28, 120, 130, 181, 0, 102, 27, 4]
abbrev dktX5_one_7 : List UInt8 := dkwX5_one_7 ++ dktX5_one_8
def dkwX5_one_6 : List UInt8 := [4, 167, 0, 4, 3, 54, 4, 27, 154, 0, 37, 29, 4, 159, 0, 8, 29, 6, 160, 0, 27, 42, 42]
abbrev dktX5_one_6 : List UInt8 := dkwX5_one_6 ++ dktX5_one_7
def dkwX5_one_5 : List UInt8 := [6, 160, 0, 7, 4, 167, 0, 4, 3, 54, 4, 167, 0, 20, 29, 4, 159, 0, 8, 29, 5, 160, 0, 7]
abbrev dktX5_one_5 : List UInt8 := dkwX5_one_5 ++ dktX5_one_6
def dkwX5_one_4 : List UInt8 := [159, 0, 8, 29, 6, 160, 0, 7, 4, 167, 0, 4, 3, 54, 4, 167, 0, 40, 29, 4, 159, 0, 8, 29]
abbrev dktX5_one_4 : List UInt8 := dkwX5_one_4 ++ dktX5_one_5
def dkwX5_one_3 : List UInt8 := [3, 54, 4, 167, 0, 75, 29, 4, 160, 0, 7, 4, 167, 0, 4, 3, 54, 4, 167, 0, 60, 29, 5]
abbrev dktX5_one_3 : List UInt8 := dkwX5_one_3 ++ dktX5_one_4
def dkwX5_one_2 : List UInt8 := [29, 5, 160, 0, 7, 4, 167, 0, 4, 3, 54, 4, 167, 0, 90, 29, 5, 160, 0, 7, 4, 167, 0, 4]
abbrev dktX5_one_2 : List UInt8 := dkwX5_one_2 ++ dktX5_one_3
def dkwX5_one_1 : List UInt8 := [170, 0, 0, 0, 0, 119, 0, 0, 0, 0, 0, 0, 0, 4, 0, 0, 0, 34, 0, 0, 0, 49, 0, 0, 0, 64, 0, 0, 0, 79, 0, 0, 0, 99]
abbrev dktX5_one_1 : List UInt8 := dkwX5_one_1 ++ dktX5_one_2
def dkwX5_one_0 : List UInt8 := [42, 180, 0, 99, 42, 180, 0, 102, 28, 184, 0, 95, 62, 27]
abbrev dktX5_one_0 : List UInt8 := dkwX5_one_0 ++ dktX5_one_1
theorem dksX5_one_0 : cX5_one.data.toList.drop 0 = dktX5_one_0 := by decide +kernel
theorem dksX5_one_1 : cX5_one.data.toList.drop 14 = dktX5_one_1 := dk_seg dksX5_one_0 14 rfl rfl
theorem dksX5_one_2 : cX5_one.data.toList.drop 48 = dktX5_one_2 := dk_seg dksX5_one_1 34 rfl rfl
theorem dksX5_one_3 : cX5_one.data.toList.drop 72 = dktX5_one_3 := dk_seg dksX5_one_2 24 rfl rfl
theorem dksX5_one_4 : cX5_one.data.toList.drop 95 = dktX5_one_4 := dk_seg dksX5_one_3 23 rfl rfl
theorem dksX5_one_5 : cX5_one.data.toList.drop 119 = dktX5_one_5 := dk_seg dksX5_one_4 24 rfl rfl
theorem dksX5_one_6 : cX5_one.data.toList.drop 143 = dktX5_one_6 := dk_seg dksX5_one_5 24 rfl rfl
theorem dksX5_one_7 : cX5_one.data.toList.drop 166 = dktX5_one_7 := dk_seg dksX5_one_6 23 rfl rfl
theorem dksX5_one_8 : cX5_one.data.toList.drop 190 = dktX5_one_8 := dk_seg dksX5_one_7 24 rfl rfl
theorem dksX5_one_9 : cX5_one.data.toList.drop 214 = dktX5_one_9 := dk_seg dksX5_one_8 24 rfl rfl
theorem dX5_one_0 : decode cX5_one 0 = .ok (.aload_n 0, 1) := dk_42 (dk_at dksX5_one_0 0 rfl rfl)
theorem dX5_one_1 : decode cX5_one 1 = .ok (.getfield 99, 3) := dk_180 0 99 (dk_at dksX5_one_0 1 rfl rfl)
theorem dX5_one_4 : decode cX5_one 4 = .ok (.aload_n 0, 1) := dk_42 (dk_at dksX5_one_0 4 rfl rfl)
theorem dX5_one_5 : decode cX5_one 5 = .ok (.getfield 102, 3) := dk_180 0 102 (dk_at dksX5_one_0 5 rfl rfl)
theorem dX5_one_8 : decode cX5_one 8 = .ok (.iload_n 2, 1) := dk_28 (dk_at dksX5_one_0 8 rfl rfl)
theorem dX5_one_9 : decode cX5_one 9 = .ok (.invokestatic 95, 3) := dk_184 0 95 (dk_at dksX5_one_0 9 rfl rfl)
theorem dX5_one_12 : decode cX5_one 12 = .ok (.istore_n 3, 1) := dk_62 (dk_at dksX5_one_0 12 rfl rfl)
theorem dX5_one_13 : decode cX5_one 13 = .ok (.iload_n 1, 1) := dk_27 (dk_at dksX5_one_0 13 rfl rfl)
theorem dX5_one_14 : decode cX5_one 14 = .ok (.tableswitch 119 0 4 #[34, 49, 64, 79, 99], 34) := by decide +kernel
theorem dX5_one_48 : decode cX5_one 48 = .ok (.iload_n 3, 1) := dk_29 (dk_at dksX5_one_2 0 rfl rfl)
theorem dX5_one_49 : decode cX5_one 49 = .ok (.iconst 2, 1) := dk_5 (dk_at dksX5_one_2 1 rfl rfl)
theorem dX5_one_50 : decode cX5_one 50 = .ok (.if_icmp .ne 7, 3) := dk_160 0 7 (dk_at dksX5_one_2 2 rfl rfl)
theorem dX5_one_53 : decode cX5_one 53 = .ok (.iconst 1, 1) := dk_4 (dk_at dksX5_one_2 5 rfl rfl)
theorem dX5_one_54 : decode cX5_one 54 = .ok (.goto 4, 3) := dk_167 0 4 (dk_at dksX5_one_2 6 rfl rfl)
theorem dX5_one_57 : decode cX5_one 57 = .ok (.iconst 0, 1) := dk_3 (dk_at dksX5_one_2 9 rfl rfl)
theorem dX5_one_58 : decode cX5_one 58 = .ok (.istore 4, 2) := dk_54 4 (dk_at dksX5_one_2 10 rfl rfl)
theorem dX5_one_60 : decode cX5_one 60 = .ok (.goto 90, 3) := dk_167 0 90 (dk_at dksX5_one_2 12 rfl rfl)
theorem dX5_one_63 : decode cX5_one 63 = .ok (.iload_n 3, 1) := dk_29 (dk_at dksX5_one_2 15 rfl rfl)
theorem dX5_one_64 : decode cX5_one 64 = .ok (.iconst 2, 1) := dk_5 (dk_at dksX5_one_2 16 rfl rfl)
theorem dX5_one_65 : decode cX5_one 65 = .ok (.if_icmp .ne 7, 3) := dk_160 0 7 (dk_at dksX5_one_2 17 rfl rfl)
theorem dX5_one_68 : decode cX5_one 68 = .ok (.iconst 1, 1) := dk_4 (dk_at dksX5_one_2 20 rfl rfl)
theorem dX5_one_69 : decode cX5_one 69 = .ok (.goto 4, 3) := dk_167 0 4 (dk_at dksX5_one_2 21 rfl rfl)
theorem dX5_one_72 : decode cX5_one 72 = .ok (.iconst 0, 1) := dk_3 (dk_at dksX5_one_3 0 rfl rfl)
theorem dX5_one_73 : decode cX5_one 73 = .ok (.istore 4, 2) := dk_54 4 (dk_at dksX5_one_3 1 rfl rfl)
theorem dX5_one_75 : decode cX5_one 75 = .ok (.goto 75, 3) := dk_167 0 75 (dk_at dksX5_one_3 3 rfl rfl)
theorem dX5_one_78 : decode cX5_one 78 = .ok (.iload_n 3, 1) := dk_29 (dk_at dksX5_one_3 6 rfl rfl)
theorem dX5_one_79 : decode cX5_one 79 = .ok (.iconst 1, 1) := dk_4 (dk_at dksX5_one_3 7 rfl rfl)
theorem dX5_one_80 : decode cX5_one 80 = .ok (.if_icmp .ne 7, 3) := dk_160 0 7 (dk_at dksX5_one_3 8 rfl rfl)
theorem dX5_one_83 : decode cX5_one 83 = .ok (.iconst 1, 1) := dk_4 (dk_at dksX5_one_3 11 rfl rfl)
theorem dX5_one_84 : decode cX5_one 84 = .ok (.goto 4, 3) := dk_167 0 4 (dk_at dksX5_one_3 12 rfl rfl)
theorem dX5_one_87 : decode cX5_one 87 = .ok (.iconst 0, 1) := dk_3 (dk_at dksX5_one_3 15 rfl rfl)
theorem dX5_one_88 : decode cX5_one 88 = .ok (.istore 4, 2) := dk_54 4 (dk_at dksX5_one_3 16 rfl rfl)
theorem dX5_one_90 : decode cX5_one 90 = .ok (.goto 60, 3) := dk_167 0 60 (dk_at dksX5_one_3 18 rfl rfl)
theorem dX5_one_93 : decode cX5_one 93 = .ok (.iload_n 3, 1) := dk_29 (dk_at dksX5_one_3 21 rfl rfl)
theorem dX5_one_94 : decode cX5_one 94 = .ok (.iconst 2, 1) := dk_5 (dk_at dksX5_one_3 22 rfl rfl)
theorem dX5_one_95 : decode cX5_one 95 = .ok (.if_icmp .eq 8, 3) := dk_159 0 8 (dk_at dksX5_one_4 0 rfl rfl)
theorem dX5_one_98 : decode cX5_one 98 = .ok (.iload_n 3, 1) := dk_29 (dk_at dksX5_one_4 3 rfl rfl)
theorem dX5_one_99 : decode cX5_one 99 = .ok (.iconst 3, 1) := dk_6 (dk_at dksX5_one_4 4 rfl rfl)
theorem dX5_one_100 : decode cX5_one 100 = .ok (.if_icmp .ne 7, 3) := dk_160 0 7 (dk_at dksX5_one_4 5 rfl rfl)
theorem dX5_one_103 : decode cX5_one 103 = .ok (.iconst 1, 1) := dk_4 (dk_at dksX5_one_4 8 rfl rfl)
theorem dX5_one_104 : decode cX5_one 104 = .ok (.goto 4, 3) := dk_167 0 4 (dk_at dksX5_one_4 9 rfl rfl)
theorem dX5_one_107 : decode cX5_one 107 = .ok (.iconst 0, 1) := dk_3 (dk_at dksX5_one_4 12 rfl rfl)
theorem dX5_one_108 : decode cX5_one 108 = .ok (.istore 4, 2) := dk_54 4 (dk_at dksX5_one_4 13 rfl rfl)
theorem dX5_one_110 : decode cX5_one 110 = .ok (.goto 40, 3) := dk_167 0 40 (dk_at dksX5_one_4 15 rfl rfl)
theorem dX5_one_113 : decode cX5_one 113 = .ok (.iload_n 3, 1) := dk_29 (dk_at dksX5_one_4 18 rfl rfl)
theorem dX5_one_114 : decode cX5_one 114 = .ok (.iconst 1, 1) := dk_4 (dk_at dksX5_one_4 19 rfl rfl)
theorem dX5_one_115 : decode cX5_one 115 = .ok (.if_icmp .eq 8, 3) := dk_159 0 8 (dk_at dksX5_one_4 20 rfl rfl)
theorem dX5_one_118 : decode cX5_one 118 = .ok (.iload_n 3, 1) := dk_29 (dk_at dksX5_one_4 23 rfl rfl)
theorem dX5_one_119 : decode cX5_one 119 = .ok (.iconst 3, 1) := dk_6 (dk_at dksX5_one_5 0 rfl rfl)
theorem dX5_one_120 : decode cX5_one 120 = .ok (.if_icmp .ne 7, 3) := dk_160 0 7 (dk_at dksX5_one_5 1 rfl rfl)
theorem dX5_one_123 : decode cX5_one 123 = .ok (.iconst 1, 1) := dk_4 (dk_at dksX5_one_5 4 rfl rfl)
theorem dX5_one_124 : decode cX5_one 124 = .ok (.goto 4, 3) := dk_167 0 4 (dk_at dksX5_one_5 5 rfl rfl)
theorem dX5_one_127 : decode cX5_one 127 = .ok (.iconst 0, 1) := dk_3 (dk_at dksX5_one_5 8 rfl rfl)
theorem dX5_one_128 : decode cX5_one 128 = .ok (.istore 4, 2) := dk_54 4 (dk_at dksX5_one_5 9 rfl rfl)
theorem dX5_one_130 : decode cX5_one 130 = .ok (.goto 20, 3) := dk_167 0 20 (dk_at dksX5_one_5 11 rfl rfl)
theorem dX5_one_133 : decode cX5_one 133 = .ok (.iload_n 3, 1) := dk_29 (dk_at dksX5_one_5 14 rfl rfl)
theorem dX5_one_134 : decode cX5_one 134 = .ok (.iconst 1, 1) := dk_4 (dk_at dksX5_one_5 15 rfl rfl)
theorem dX5_one_135 : decode cX5_one 135 = .ok (.if_icmp .eq 8, 3) := dk_159 0 8 (dk_at dksX5_one_5 16 rfl rfl)
theorem dX5_one_138 : decode cX5_one 138 = .ok (.iload_n 3, 1) := dk_29 (dk_at dksX5_one_5 19 rfl rfl)
theorem dX5_one_139 : decode cX5_one 139 = .ok (.iconst 2, 1) := dk_5 (dk_at dksX5_one_5 20 rfl rfl)
theorem dX5_one_140 : decode cX5_one 140 = .ok (.if_icmp .ne 7, 3) := dk_160 0 7 (dk_at dksX5_one_5 21 rfl rfl)
theorem dX5_one_143 : decode cX5_one 143 = .ok (.iconst 1, 1) := dk_4 (dk_at dksX5_one_6 0 rfl rfl)
theorem dX5_one_144 : decode cX5_one 144 = .ok (.goto 4, 3) := dk_167 0 4 (dk_at dksX5_one_6 1 rfl rfl)
theorem dX5_one_147 : decode cX5_one 147 = .ok (.iconst 0, 1) := dk_3 (dk_at dksX5_one_6 4 rfl rfl)
theorem dX5_one_148 : decode cX5_one 148 = .ok (.istore 4, 2) := dk_54 4 (dk_at dksX5_one_6 5 rfl rfl)
theorem dX5_one_150 : decode cX5_one 150 = .ok (.iload_n 1, 1) := dk_27 (dk_at dksX5_one_6 7 rfl rfl)
theorem dX5_one_151 : decode cX5_one 151 = .ok (.ifCond .ne 37, 3) := dk_154 0 37 (dk_at dksX5_one_6 8 rfl rfl)
theorem dX5_one_154 : decode cX5_one 154 = .ok (.iload_n 3, 1) := dk_29 (dk_at dksX5_one_6 11 rfl rfl)
theorem dX5_one_155 : decode cX5_one 155 = .ok (.iconst 1, 1) := dk_4 (dk_at dksX5_one_6 12 rfl rfl)
theorem dX5_one_156 : decode cX5_one 156 = .ok (.if_icmp .eq 8, 3) := dk_159 0 8 (dk_at dksX5_one_6 13 rfl rfl)
theorem dX5_one_159 : decode cX5_one 159 = .ok (.iload_n 3, 1) := dk_29 (dk_at dksX5_one_6 16 rfl rfl)
theorem dX5_one_160 : decode cX5_one 160 = .ok (.iconst 3, 1) := dk_6 (dk_at dksX5_one_6 17 rfl rfl)
theorem dX5_one_161 : decode cX5_one 161 = .ok (.if_icmp .ne 27, 3) := dk_160 0 27 (dk_at dksX5_one_6 18 rfl rfl)
theorem dX5_one_164 : decode cX5_one 164 = .ok (.aload_n 0, 1) := dk_42 (dk_at dksX5_one_6 21 rfl rfl)
theorem dX5_one_165 : decode cX5_one 165 = .ok (.aload_n 0, 1) := dk_42 (dk_at dksX5_one_6 22 rfl rfl)
theorem dX5_one_166 : decode cX5_one 166 = .ok (.getfield 99, 3) := dk_180 0 99 (dk_at dksX5_one_7 0 rfl rfl)
theorem dX5_one_169 : decode cX5_one 169 = .ok (.iconst 1, 1) := dk_4 (dk_at dksX5_one_7 3 rfl rfl)
theorem dX5_one_170 : decode cX5_one 170 = .ok (.iload_n 2, 1) := dk_28 (dk_at dksX5_one_7 4 rfl rfl)
theorem dX5_one_171 : decode cX5_one 171 = .ok (.ishl, 1) := dk_120 (dk_at dksX5_one_7 5 rfl rfl)
theorem dX5_one_172 : decode cX5_one 172 = .ok (.ixor, 1) := dk_130 (dk_at dksX5_one_7 6 rfl rfl)
theorem dX5_one_173 : decode cX5_one 173 = .ok (.putfield 99, 3) := dk_181 0 99 (dk_at dksX5_one_7 7 rfl rfl)
theorem dX5_one_176 : decode cX5_one 176 = .ok (.aload_n 0, 1) := dk_42 (dk_at dksX5_one_7 10 rfl rfl)
theorem dX5_one_177 : decode cX5_one 177 = .ok (.aload_n 0, 1) := dk_42 (dk_at dksX5_one_7 11 rfl rfl)
theorem dX5_one_178 : decode cX5_one 178 = .ok (.getfield 102, 3) := dk_180 0 102 (dk_at dksX5_one_7 12 rfl rfl)
theorem dX5_one_181 : decode cX5_one 181 = .ok (.iconst 1, 1) := dk_4 (dk_at dksX5_one_7 15 rfl rfl)
theorem dX5_one_182 : decode cX5_one 182 = .ok (.iload_n 2, 1) := dk_28 (dk_at dksX5_one_7 16 rfl rfl)
theorem dX5_one_183 : decode cX5_one 183 = .ok (.ishl, 1) := dk_120 (dk_at dksX5_one_7 17 rfl rfl)
theorem dX5_one_184 : decode cX5_one 184 = .ok (.ixor, 1) := dk_130 (dk_at dksX5_one_7 18 rfl rfl)
theorem dX5_one_185 : decode cX5_one 185 = .ok (.putfield 102, 3) := dk_181 0 102 (dk_at dksX5_one_7 19 rfl rfl)
theorem dX5_one_188 : decode cX5_one 188 = .ok (.iload_n 1, 1) := dk_27 (dk_at dksX5_one_7 22 rfl rfl)
theorem dX5_one_189 : decode cX5_one 189 = .ok (.iconst 1, 1) := dk_4 (dk_at dksX5_one_7 23 rfl rfl)
theorem dX5_one_190 : decode cX5_one 190 = .ok (.if_icmp .eq 8, 3) := dk_159 0 8 (dk_at dksX5_one_8 0 rfl rfl)
theorem dX5_one_193 : decode cX5_one 193 = .ok (.iload_n 1, 1) := dk_27 (dk_at dksX5_one_8 3 rfl rfl)
theorem dX5_one_194 : decode cX5_one 194 = .ok (.iconst 2, 1) := dk_5 (dk_at dksX5_one_8 4 rfl rfl)
theorem dX5_one_195 : decode cX5_one 195 = .ok (.if_icmp .ne 25, 3) := dk_160 0 25 (dk_at dksX5_one_8 5 rfl rfl)
theorem dX5_one_198 : decode cX5_one 198 = .ok (.iload_n 3, 1) := dk_29 (dk_at dksX5_one_8 8 rfl rfl)
theorem dX5_one_199 : decode cX5_one 199 = .ok (.iconst 1, 1) := dk_4 (dk_at dksX5_one_8 9 rfl rfl)
theorem dX5_one_200 : decode cX5_one 200 = .ok (.if_icmp .eq 8, 3) := dk_159 0 8 (dk_at dksX5_one_8 10 rfl rfl)
theorem dX5_one_203 : decode cX5_one 203 = .ok (.iload_n 3, 1) := dk_29 (dk_at dksX5_one_8 13 rfl rfl)
theorem dX5_one_204 : decode cX5_one 204 = .ok (.iconst 2, 1) := dk_5 (dk_at dksX5_one_8 14 rfl rfl)
theorem dX5_one_205 : decode cX5_one 205 = .ok (.if_icmp .ne 15, 3) := dk_160 0 15 (dk_at dksX5_one_8 15 rfl rfl)
theorem dX5_one_208 : decode cX5_one 208 = .ok (.aload_n 0, 1) := dk_42 (dk_at dksX5_one_8 18 rfl rfl)
theorem dX5_one_209 : decode cX5_one 209 = .ok (.aload_n 0, 1) := dk_42 (dk_at dksX5_one_8 19 rfl rfl)
theorem dX5_one_210 : decode cX5_one 210 = .ok (.getfield 102, 3) := dk_180 0 102 (dk_at dksX5_one_8 20 rfl rfl)
theorem dX5_one_213 : decode cX5_one 213 = .ok (.iconst 1, 1) := dk_4 (dk_at dksX5_one_8 23 rfl rfl)
theorem dX5_one_214 : decode cX5_one 214 = .ok (.iload_n 2, 1) := dk_28 (dk_at dksX5_one_9 0 rfl rfl)
theorem dX5_one_215 : decode cX5_one 215 = .ok (.ishl, 1) := dk_120 (dk_at dksX5_one_9 1 rfl rfl)
theorem dX5_one_216 : decode cX5_one 216 = .ok (.ixor, 1) := dk_130 (dk_at dksX5_one_9 2 rfl rfl)
theorem dX5_one_217 : decode cX5_one 217 = .ok (.putfield 102, 3) := dk_181 0 102 (dk_at dksX5_one_9 3 rfl rfl)
theorem dX5_one_220 : decode cX5_one 220 = .ok (.iload 4, 2) := dk_21 4 (dk_at dksX5_one_9 6 rfl rfl)
theorem dX5_one_222 : decode cX5_one 222 = .ok (.ifCond .eq 13, 3) := dk_153 0 13 (dk_at dksX5_one_9 8 rfl rfl)
theorem dX5_one_225 : decode cX5_one 225 = .ok (.aload_n 0, 1) := dk_42 (dk_at dksX5_one_9 11 rfl rfl)
theorem dX5_one_226 : decode cX5_one 226 = .ok (.iconst 1, 1) := dk_4 (dk_at dksX5_one_9 12 rfl rfl)
theorem dX5_one_227 : decode cX5_one 227 = .ok (.aload_n 0, 1) := dk_42 (dk_at dksX5_one_9 13 rfl rfl)
theorem dX5_one_228 : decode cX5_one 228 = .ok (.getfield 105, 3) := dk_180 0 105 (dk_at dksX5_one_9 14 rfl rfl)
theorem dX5_one_231 : decode cX5_one 231 = .ok (.isub, 1) := dk_100 (dk_at dksX5_one_9 17 rfl rfl)
theorem dX5_one_232 : decode cX5_one 232 = .ok (.putfield 105, 3) := dk_181 0 105 (dk_at dksX5_one_9 18 rfl rfl)
theorem dX5_one_235 : decode cX5_one 235 = .ok (.return_, 1) := dk_177 (dk_at dksX5_one_9 21 rfl rfl)
abbrev cX5_letterOf : ByteArray := prog_16_method_14_code
def yX5_letterOf : MethodName := ⟨RX5, "letterOf", "(III)I"⟩
def dkwX5_letterOf_1 : List UInt8 := [27, 28, 184, 0, 91, 153, 0, 7, 6, 167, 0, 4, 3, 172]
abbrev dktX5_letterOf_1 : List UInt8 := dkwX5_letterOf_1 ++ []
def dkwX5_letterOf_0 : List UInt8 := [26, 28, 184, 0, 91, 153, 0, 19, 27, 28, 184, 0, 91, 153, 0, 7, 5, 167, 0, 20, 4, 167, 0, 16]
abbrev dktX5_letterOf_0 : List UInt8 := dkwX5_letterOf_0 ++ dktX5_letterOf_1
theorem dksX5_letterOf_0 : cX5_letterOf.data.toList.drop 0 = dktX5_letterOf_0 := by decide +kernel
theorem dksX5_letterOf_1 : cX5_letterOf.data.toList.drop 24 = dktX5_letterOf_1 := dk_seg dksX5_letterOf_0 24 rfl rfl
theorem dX5_letterOf_0 : decode cX5_letterOf 0 = .ok (.iload_n 0, 1) := dk_26 (dk_at dksX5_letterOf_0 0 rfl rfl)
theorem dX5_letterOf_1 : decode cX5_letterOf 1 = .ok (.iload_n 2, 1) := dk_28 (dk_at dksX5_letterOf_0 1 rfl rfl)
theorem dX5_letterOf_2 : decode cX5_letterOf 2 = .ok (.invokestatic 91, 3) := dk_184 0 91 (dk_at dksX5_letterOf_0 2 rfl rfl)
theorem dX5_letterOf_5 : decode cX5_letterOf 5 = .ok (.ifCond .eq 19, 3) := dk_153 0 19 (dk_at dksX5_letterOf_0 5 rfl rfl)
theorem dX5_letterOf_8 : decode cX5_letterOf 8 = .ok (.iload_n 1, 1) := dk_27 (dk_at dksX5_letterOf_0 8 rfl rfl)
theorem dX5_letterOf_9 : decode cX5_letterOf 9 = .ok (.iload_n 2, 1) := dk_28 (dk_at dksX5_letterOf_0 9 rfl rfl)
theorem dX5_letterOf_10 : decode cX5_letterOf 10 = .ok (.invokestatic 91, 3) := dk_184 0 91 (dk_at dksX5_letterOf_0 10 rfl rfl)
theorem dX5_letterOf_13 : decode cX5_letterOf 13 = .ok (.ifCond .eq 7, 3) := dk_153 0 7 (dk_at dksX5_letterOf_0 13 rfl rfl)
theorem dX5_letterOf_16 : decode cX5_letterOf 16 = .ok (.iconst 2, 1) := dk_5 (dk_at dksX5_letterOf_0 16 rfl rfl)
theorem dX5_letterOf_17 : decode cX5_letterOf 17 = .ok (.goto 20, 3) := dk_167 0 20 (dk_at dksX5_letterOf_0 17 rfl rfl)
theorem dX5_letterOf_20 : decode cX5_letterOf 20 = .ok (.iconst 1, 1) := dk_4 (dk_at dksX5_letterOf_0 20 rfl rfl)
theorem dX5_letterOf_21 : decode cX5_letterOf 21 = .ok (.goto 16, 3) := dk_167 0 16 (dk_at dksX5_letterOf_0 21 rfl rfl)
theorem dX5_letterOf_24 : decode cX5_letterOf 24 = .ok (.iload_n 1, 1) := dk_27 (dk_at dksX5_letterOf_1 0 rfl rfl)
theorem dX5_letterOf_25 : decode cX5_letterOf 25 = .ok (.iload_n 2, 1) := dk_28 (dk_at dksX5_letterOf_1 1 rfl rfl)
theorem dX5_letterOf_26 : decode cX5_letterOf 26 = .ok (.invokestatic 91, 3) := dk_184 0 91 (dk_at dksX5_letterOf_1 2 rfl rfl)
theorem dX5_letterOf_29 : decode cX5_letterOf 29 = .ok (.ifCond .eq 7, 3) := dk_153 0 7 (dk_at dksX5_letterOf_1 5 rfl rfl)
theorem dX5_letterOf_32 : decode cX5_letterOf 32 = .ok (.iconst 3, 1) := dk_6 (dk_at dksX5_letterOf_1 8 rfl rfl)
theorem dX5_letterOf_33 : decode cX5_letterOf 33 = .ok (.goto 4, 3) := dk_167 0 4 (dk_at dksX5_letterOf_1 9 rfl rfl)
theorem dX5_letterOf_36 : decode cX5_letterOf 36 = .ok (.iconst 0, 1) := dk_3 (dk_at dksX5_letterOf_1 12 rfl rfl)
theorem dX5_letterOf_37 : decode cX5_letterOf 37 = .ok (.ireturn, 1) := dk_172 (dk_at dksX5_letterOf_1 13 rfl rfl)
abbrev cX5_has : ByteArray := prog_16_method_7_code
def yX5_has : MethodName := ⟨RX5, "has", "(II)Z"⟩
def dkwX5_has_0 : List UInt8 := [26, 27, 122, 4, 126, 4, 160, 0, 7, 4, 167, 0, 4, 3, 172]
abbrev dktX5_has_0 : List UInt8 := dkwX5_has_0 ++ []
theorem dksX5_has_0 : cX5_has.data.toList.drop 0 = dktX5_has_0 := by decide +kernel
theorem dX5_has_0 : decode cX5_has 0 = .ok (.iload_n 0, 1) := dk_26 (dk_at dksX5_has_0 0 rfl rfl)
theorem dX5_has_1 : decode cX5_has 1 = .ok (.iload_n 1, 1) := dk_27 (dk_at dksX5_has_0 1 rfl rfl)
theorem dX5_has_2 : decode cX5_has 2 = .ok (.ishr, 1) := dk_122 (dk_at dksX5_has_0 2 rfl rfl)
theorem dX5_has_3 : decode cX5_has 3 = .ok (.iconst 1, 1) := dk_4 (dk_at dksX5_has_0 3 rfl rfl)
theorem dX5_has_4 : decode cX5_has 4 = .ok (.iand, 1) := dk_126 (dk_at dksX5_has_0 4 rfl rfl)
theorem dX5_has_5 : decode cX5_has 5 = .ok (.iconst 1, 1) := dk_4 (dk_at dksX5_has_0 5 rfl rfl)
theorem dX5_has_6 : decode cX5_has 6 = .ok (.if_icmp .ne 7, 3) := dk_160 0 7 (dk_at dksX5_has_0 6 rfl rfl)
theorem dX5_has_9 : decode cX5_has 9 = .ok (.iconst 1, 1) := dk_4 (dk_at dksX5_has_0 9 rfl rfl)
theorem dX5_has_10 : decode cX5_has 10 = .ok (.goto 4, 3) := dk_167 0 4 (dk_at dksX5_has_0 10 rfl rfl)
theorem dX5_has_13 : decode cX5_has 13 = .ok (.iconst 0, 1) := dk_3 (dk_at dksX5_has_0 13 rfl rfl)
theorem dX5_has_14 : decode cX5_has 14 = .ok (.ireturn, 1) := dk_172 (dk_at dksX5_has_0 14 rfl rfl)
abbrev cX5_two : ByteArray := prog_16_method_23_code
def yX5_two : MethodName := ⟨RX5, "two", "(III)V"⟩
def dkwX5_two_9 : List UInt8 := [180, 0, 102, 4, 28, 120, 130, 4, 29, 120, 130, 181, 0, 102, 177]
abbrev dktX5_two_9 : List UInt8 := dkwX5_two_9 ++ []
def dkwX5_two_8 : List UInt8 := [180, 0, 99, 4, 28, 120, 130, 4, 29, 120, 130, 181, 0, 99, 21, 5, 21, 7, 159, 0, 19, 42, 42]
abbrev dktX5_two_8 : List UInt8 := dkwX5_two_8 ++ dktX5_two_9
def dkwX5_two_7 : List UInt8 := [159, 0, 13, 42, 4, 42, 180, 0, 105, 100, 181, 0, 105, 177, 21, 4, 21, 6, 159, 0, 19, 42, 42]
abbrev dktX5_two_7 : List UInt8 := dkwX5_two_7 ++ dktX5_two_8
def dkwX5_two_6 : List UInt8 := [180, 0, 102, 4, 29, 120, 130, 181, 0, 102, 21, 4, 153, 0, 25, 21, 6, 153, 0, 20, 21, 5, 21, 7]
abbrev dktX5_two_6 : List UInt8 := dkwX5_two_6 ++ dktX5_two_7
def dkwX5_two_5 : List UInt8 := [153, 0, 15, 42, 42, 180, 0, 102, 4, 28, 120, 130, 181, 0, 102, 21, 4, 153, 0, 15, 42, 42]
abbrev dktX5_two_5 : List UInt8 := dkwX5_two_5 ++ dktX5_two_6
def dkwX5_two_4 : List UInt8 := [160, 0, 13, 42, 4, 42, 180, 0, 105, 100, 181, 0, 105, 177, 27, 16, 7, 160, 0, 65, 21, 6]
abbrev dktX5_two_4 : List UInt8 := dkwX5_two_4 ++ dktX5_two_5
def dkwX5_two_3 : List UInt8 := [180, 0, 102, 4, 28, 120, 130, 181, 0, 102, 21, 4, 153, 0, 25, 21, 7, 153, 0, 20, 21, 6, 21, 5]
abbrev dktX5_two_3 : List UInt8 := dkwX5_two_3 ++ dktX5_two_4
def dkwX5_two_2 : List UInt8 := [153, 0, 15, 42, 42, 180, 0, 99, 4, 29, 120, 130, 181, 0, 99, 21, 7, 153, 0, 15, 42, 42]
abbrev dktX5_two_2 : List UInt8 := dkwX5_two_2 ++ dktX5_two_3
def dkwX5_two_1 : List UInt8 := [29, 184, 0, 91, 54, 6, 42, 180, 0, 102, 29, 184, 0, 91, 54, 7, 27, 16, 6, 160, 0, 65, 21, 4]
abbrev dktX5_two_1 : List UInt8 := dkwX5_two_1 ++ dktX5_two_2
def dkwX5_two_0 : List UInt8 := [42, 180, 0, 99, 28, 184, 0, 91, 54, 4, 42, 180, 0, 102, 28, 184, 0, 91, 54, 5, 42, 180, 0, 99]
abbrev dktX5_two_0 : List UInt8 := dkwX5_two_0 ++ dktX5_two_1
theorem dksX5_two_0 : cX5_two.data.toList.drop 0 = dktX5_two_0 := by decide +kernel
theorem dksX5_two_1 : cX5_two.data.toList.drop 24 = dktX5_two_1 := dk_seg dksX5_two_0 24 rfl rfl
theorem dksX5_two_2 : cX5_two.data.toList.drop 48 = dktX5_two_2 := dk_seg dksX5_two_1 24 rfl rfl
theorem dksX5_two_3 : cX5_two.data.toList.drop 70 = dktX5_two_3 := dk_seg dksX5_two_2 22 rfl rfl
theorem dksX5_two_4 : cX5_two.data.toList.drop 94 = dktX5_two_4 := dk_seg dksX5_two_3 24 rfl rfl
theorem dksX5_two_5 : cX5_two.data.toList.drop 116 = dktX5_two_5 := dk_seg dksX5_two_4 22 rfl rfl
theorem dksX5_two_6 : cX5_two.data.toList.drop 138 = dktX5_two_6 := dk_seg dksX5_two_5 22 rfl rfl
theorem dksX5_two_7 : cX5_two.data.toList.drop 162 = dktX5_two_7 := dk_seg dksX5_two_6 24 rfl rfl
theorem dksX5_two_8 : cX5_two.data.toList.drop 185 = dktX5_two_8 := dk_seg dksX5_two_7 23 rfl rfl
theorem dksX5_two_9 : cX5_two.data.toList.drop 208 = dktX5_two_9 := dk_seg dksX5_two_8 23 rfl rfl
theorem dX5_two_0 : decode cX5_two 0 = .ok (.aload_n 0, 1) := dk_42 (dk_at dksX5_two_0 0 rfl rfl)
theorem dX5_two_1 : decode cX5_two 1 = .ok (.getfield 99, 3) := dk_180 0 99 (dk_at dksX5_two_0 1 rfl rfl)
theorem dX5_two_4 : decode cX5_two 4 = .ok (.iload_n 2, 1) := dk_28 (dk_at dksX5_two_0 4 rfl rfl)
theorem dX5_two_5 : decode cX5_two 5 = .ok (.invokestatic 91, 3) := dk_184 0 91 (dk_at dksX5_two_0 5 rfl rfl)
theorem dX5_two_8 : decode cX5_two 8 = .ok (.istore 4, 2) := dk_54 4 (dk_at dksX5_two_0 8 rfl rfl)
theorem dX5_two_10 : decode cX5_two 10 = .ok (.aload_n 0, 1) := dk_42 (dk_at dksX5_two_0 10 rfl rfl)
theorem dX5_two_11 : decode cX5_two 11 = .ok (.getfield 102, 3) := dk_180 0 102 (dk_at dksX5_two_0 11 rfl rfl)
theorem dX5_two_14 : decode cX5_two 14 = .ok (.iload_n 2, 1) := dk_28 (dk_at dksX5_two_0 14 rfl rfl)
theorem dX5_two_15 : decode cX5_two 15 = .ok (.invokestatic 91, 3) := dk_184 0 91 (dk_at dksX5_two_0 15 rfl rfl)
theorem dX5_two_18 : decode cX5_two 18 = .ok (.istore 5, 2) := dk_54 5 (dk_at dksX5_two_0 18 rfl rfl)
theorem dX5_two_20 : decode cX5_two 20 = .ok (.aload_n 0, 1) := dk_42 (dk_at dksX5_two_0 20 rfl rfl)
theorem dX5_two_21 : decode cX5_two 21 = .ok (.getfield 99, 3) := dk_180 0 99 (dk_at dksX5_two_0 21 rfl rfl)
theorem dX5_two_24 : decode cX5_two 24 = .ok (.iload_n 3, 1) := dk_29 (dk_at dksX5_two_1 0 rfl rfl)
theorem dX5_two_25 : decode cX5_two 25 = .ok (.invokestatic 91, 3) := dk_184 0 91 (dk_at dksX5_two_1 1 rfl rfl)
theorem dX5_two_28 : decode cX5_two 28 = .ok (.istore 6, 2) := dk_54 6 (dk_at dksX5_two_1 4 rfl rfl)
theorem dX5_two_30 : decode cX5_two 30 = .ok (.aload_n 0, 1) := dk_42 (dk_at dksX5_two_1 6 rfl rfl)
theorem dX5_two_31 : decode cX5_two 31 = .ok (.getfield 102, 3) := dk_180 0 102 (dk_at dksX5_two_1 7 rfl rfl)
theorem dX5_two_34 : decode cX5_two 34 = .ok (.iload_n 3, 1) := dk_29 (dk_at dksX5_two_1 10 rfl rfl)
theorem dX5_two_35 : decode cX5_two 35 = .ok (.invokestatic 91, 3) := dk_184 0 91 (dk_at dksX5_two_1 11 rfl rfl)
theorem dX5_two_38 : decode cX5_two 38 = .ok (.istore 7, 2) := dk_54 7 (dk_at dksX5_two_1 14 rfl rfl)
theorem dX5_two_40 : decode cX5_two 40 = .ok (.iload_n 1, 1) := dk_27 (dk_at dksX5_two_1 16 rfl rfl)
theorem dX5_two_41 : decode cX5_two 41 = .ok (.bipush 6, 2) := dk_16 6 (dk_at dksX5_two_1 17 rfl rfl)
theorem dX5_two_43 : decode cX5_two 43 = .ok (.if_icmp .ne 65, 3) := dk_160 0 65 (dk_at dksX5_two_1 19 rfl rfl)
theorem dX5_two_46 : decode cX5_two 46 = .ok (.iload 4, 2) := dk_21 4 (dk_at dksX5_two_1 22 rfl rfl)
theorem dX5_two_48 : decode cX5_two 48 = .ok (.ifCond .eq 15, 3) := dk_153 0 15 (dk_at dksX5_two_2 0 rfl rfl)
theorem dX5_two_51 : decode cX5_two 51 = .ok (.aload_n 0, 1) := dk_42 (dk_at dksX5_two_2 3 rfl rfl)
theorem dX5_two_52 : decode cX5_two 52 = .ok (.aload_n 0, 1) := dk_42 (dk_at dksX5_two_2 4 rfl rfl)
theorem dX5_two_53 : decode cX5_two 53 = .ok (.getfield 99, 3) := dk_180 0 99 (dk_at dksX5_two_2 5 rfl rfl)
theorem dX5_two_56 : decode cX5_two 56 = .ok (.iconst 1, 1) := dk_4 (dk_at dksX5_two_2 8 rfl rfl)
theorem dX5_two_57 : decode cX5_two 57 = .ok (.iload_n 3, 1) := dk_29 (dk_at dksX5_two_2 9 rfl rfl)
theorem dX5_two_58 : decode cX5_two 58 = .ok (.ishl, 1) := dk_120 (dk_at dksX5_two_2 10 rfl rfl)
theorem dX5_two_59 : decode cX5_two 59 = .ok (.ixor, 1) := dk_130 (dk_at dksX5_two_2 11 rfl rfl)
theorem dX5_two_60 : decode cX5_two 60 = .ok (.putfield 99, 3) := dk_181 0 99 (dk_at dksX5_two_2 12 rfl rfl)
theorem dX5_two_63 : decode cX5_two 63 = .ok (.iload 7, 2) := dk_21 7 (dk_at dksX5_two_2 15 rfl rfl)
theorem dX5_two_65 : decode cX5_two 65 = .ok (.ifCond .eq 15, 3) := dk_153 0 15 (dk_at dksX5_two_2 17 rfl rfl)
theorem dX5_two_68 : decode cX5_two 68 = .ok (.aload_n 0, 1) := dk_42 (dk_at dksX5_two_2 20 rfl rfl)
theorem dX5_two_69 : decode cX5_two 69 = .ok (.aload_n 0, 1) := dk_42 (dk_at dksX5_two_2 21 rfl rfl)
theorem dX5_two_70 : decode cX5_two 70 = .ok (.getfield 102, 3) := dk_180 0 102 (dk_at dksX5_two_3 0 rfl rfl)
theorem dX5_two_73 : decode cX5_two 73 = .ok (.iconst 1, 1) := dk_4 (dk_at dksX5_two_3 3 rfl rfl)
theorem dX5_two_74 : decode cX5_two 74 = .ok (.iload_n 2, 1) := dk_28 (dk_at dksX5_two_3 4 rfl rfl)
theorem dX5_two_75 : decode cX5_two 75 = .ok (.ishl, 1) := dk_120 (dk_at dksX5_two_3 5 rfl rfl)
theorem dX5_two_76 : decode cX5_two 76 = .ok (.ixor, 1) := dk_130 (dk_at dksX5_two_3 6 rfl rfl)
theorem dX5_two_77 : decode cX5_two 77 = .ok (.putfield 102, 3) := dk_181 0 102 (dk_at dksX5_two_3 7 rfl rfl)
theorem dX5_two_80 : decode cX5_two 80 = .ok (.iload 4, 2) := dk_21 4 (dk_at dksX5_two_3 10 rfl rfl)
theorem dX5_two_82 : decode cX5_two 82 = .ok (.ifCond .eq 25, 3) := dk_153 0 25 (dk_at dksX5_two_3 12 rfl rfl)
theorem dX5_two_85 : decode cX5_two 85 = .ok (.iload 7, 2) := dk_21 7 (dk_at dksX5_two_3 15 rfl rfl)
theorem dX5_two_87 : decode cX5_two 87 = .ok (.ifCond .eq 20, 3) := dk_153 0 20 (dk_at dksX5_two_3 17 rfl rfl)
theorem dX5_two_90 : decode cX5_two 90 = .ok (.iload 6, 2) := dk_21 6 (dk_at dksX5_two_3 20 rfl rfl)
theorem dX5_two_92 : decode cX5_two 92 = .ok (.iload 5, 2) := dk_21 5 (dk_at dksX5_two_3 22 rfl rfl)
theorem dX5_two_94 : decode cX5_two 94 = .ok (.if_icmp .ne 13, 3) := dk_160 0 13 (dk_at dksX5_two_4 0 rfl rfl)
theorem dX5_two_97 : decode cX5_two 97 = .ok (.aload_n 0, 1) := dk_42 (dk_at dksX5_two_4 3 rfl rfl)
theorem dX5_two_98 : decode cX5_two 98 = .ok (.iconst 1, 1) := dk_4 (dk_at dksX5_two_4 4 rfl rfl)
theorem dX5_two_99 : decode cX5_two 99 = .ok (.aload_n 0, 1) := dk_42 (dk_at dksX5_two_4 5 rfl rfl)
theorem dX5_two_100 : decode cX5_two 100 = .ok (.getfield 105, 3) := dk_180 0 105 (dk_at dksX5_two_4 6 rfl rfl)
theorem dX5_two_103 : decode cX5_two 103 = .ok (.isub, 1) := dk_100 (dk_at dksX5_two_4 9 rfl rfl)
theorem dX5_two_104 : decode cX5_two 104 = .ok (.putfield 105, 3) := dk_181 0 105 (dk_at dksX5_two_4 10 rfl rfl)
theorem dX5_two_107 : decode cX5_two 107 = .ok (.return_, 1) := dk_177 (dk_at dksX5_two_4 13 rfl rfl)
theorem dX5_two_108 : decode cX5_two 108 = .ok (.iload_n 1, 1) := dk_27 (dk_at dksX5_two_4 14 rfl rfl)
theorem dX5_two_109 : decode cX5_two 109 = .ok (.bipush 7, 2) := dk_16 7 (dk_at dksX5_two_4 15 rfl rfl)
theorem dX5_two_111 : decode cX5_two 111 = .ok (.if_icmp .ne 65, 3) := dk_160 0 65 (dk_at dksX5_two_4 17 rfl rfl)
theorem dX5_two_114 : decode cX5_two 114 = .ok (.iload 6, 2) := dk_21 6 (dk_at dksX5_two_4 20 rfl rfl)
theorem dX5_two_116 : decode cX5_two 116 = .ok (.ifCond .eq 15, 3) := dk_153 0 15 (dk_at dksX5_two_5 0 rfl rfl)
theorem dX5_two_119 : decode cX5_two 119 = .ok (.aload_n 0, 1) := dk_42 (dk_at dksX5_two_5 3 rfl rfl)
theorem dX5_two_120 : decode cX5_two 120 = .ok (.aload_n 0, 1) := dk_42 (dk_at dksX5_two_5 4 rfl rfl)
theorem dX5_two_121 : decode cX5_two 121 = .ok (.getfield 102, 3) := dk_180 0 102 (dk_at dksX5_two_5 5 rfl rfl)
theorem dX5_two_124 : decode cX5_two 124 = .ok (.iconst 1, 1) := dk_4 (dk_at dksX5_two_5 8 rfl rfl)
theorem dX5_two_125 : decode cX5_two 125 = .ok (.iload_n 2, 1) := dk_28 (dk_at dksX5_two_5 9 rfl rfl)
theorem dX5_two_126 : decode cX5_two 126 = .ok (.ishl, 1) := dk_120 (dk_at dksX5_two_5 10 rfl rfl)
theorem dX5_two_127 : decode cX5_two 127 = .ok (.ixor, 1) := dk_130 (dk_at dksX5_two_5 11 rfl rfl)
theorem dX5_two_128 : decode cX5_two 128 = .ok (.putfield 102, 3) := dk_181 0 102 (dk_at dksX5_two_5 12 rfl rfl)
theorem dX5_two_131 : decode cX5_two 131 = .ok (.iload 4, 2) := dk_21 4 (dk_at dksX5_two_5 15 rfl rfl)
theorem dX5_two_133 : decode cX5_two 133 = .ok (.ifCond .eq 15, 3) := dk_153 0 15 (dk_at dksX5_two_5 17 rfl rfl)
theorem dX5_two_136 : decode cX5_two 136 = .ok (.aload_n 0, 1) := dk_42 (dk_at dksX5_two_5 20 rfl rfl)
theorem dX5_two_137 : decode cX5_two 137 = .ok (.aload_n 0, 1) := dk_42 (dk_at dksX5_two_5 21 rfl rfl)
theorem dX5_two_138 : decode cX5_two 138 = .ok (.getfield 102, 3) := dk_180 0 102 (dk_at dksX5_two_6 0 rfl rfl)
theorem dX5_two_141 : decode cX5_two 141 = .ok (.iconst 1, 1) := dk_4 (dk_at dksX5_two_6 3 rfl rfl)
theorem dX5_two_142 : decode cX5_two 142 = .ok (.iload_n 3, 1) := dk_29 (dk_at dksX5_two_6 4 rfl rfl)
theorem dX5_two_143 : decode cX5_two 143 = .ok (.ishl, 1) := dk_120 (dk_at dksX5_two_6 5 rfl rfl)
theorem dX5_two_144 : decode cX5_two 144 = .ok (.ixor, 1) := dk_130 (dk_at dksX5_two_6 6 rfl rfl)
theorem dX5_two_145 : decode cX5_two 145 = .ok (.putfield 102, 3) := dk_181 0 102 (dk_at dksX5_two_6 7 rfl rfl)
theorem dX5_two_148 : decode cX5_two 148 = .ok (.iload 4, 2) := dk_21 4 (dk_at dksX5_two_6 10 rfl rfl)
theorem dX5_two_150 : decode cX5_two 150 = .ok (.ifCond .eq 25, 3) := dk_153 0 25 (dk_at dksX5_two_6 12 rfl rfl)
theorem dX5_two_153 : decode cX5_two 153 = .ok (.iload 6, 2) := dk_21 6 (dk_at dksX5_two_6 15 rfl rfl)
theorem dX5_two_155 : decode cX5_two 155 = .ok (.ifCond .eq 20, 3) := dk_153 0 20 (dk_at dksX5_two_6 17 rfl rfl)
theorem dX5_two_158 : decode cX5_two 158 = .ok (.iload 5, 2) := dk_21 5 (dk_at dksX5_two_6 20 rfl rfl)
theorem dX5_two_160 : decode cX5_two 160 = .ok (.iload 7, 2) := dk_21 7 (dk_at dksX5_two_6 22 rfl rfl)
theorem dX5_two_162 : decode cX5_two 162 = .ok (.if_icmp .eq 13, 3) := dk_159 0 13 (dk_at dksX5_two_7 0 rfl rfl)
theorem dX5_two_165 : decode cX5_two 165 = .ok (.aload_n 0, 1) := dk_42 (dk_at dksX5_two_7 3 rfl rfl)
theorem dX5_two_166 : decode cX5_two 166 = .ok (.iconst 1, 1) := dk_4 (dk_at dksX5_two_7 4 rfl rfl)
theorem dX5_two_167 : decode cX5_two 167 = .ok (.aload_n 0, 1) := dk_42 (dk_at dksX5_two_7 5 rfl rfl)
theorem dX5_two_168 : decode cX5_two 168 = .ok (.getfield 105, 3) := dk_180 0 105 (dk_at dksX5_two_7 6 rfl rfl)
theorem dX5_two_171 : decode cX5_two 171 = .ok (.isub, 1) := dk_100 (dk_at dksX5_two_7 9 rfl rfl)
theorem dX5_two_172 : decode cX5_two 172 = .ok (.putfield 105, 3) := dk_181 0 105 (dk_at dksX5_two_7 10 rfl rfl)
theorem dX5_two_175 : decode cX5_two 175 = .ok (.return_, 1) := dk_177 (dk_at dksX5_two_7 13 rfl rfl)
theorem dX5_two_176 : decode cX5_two 176 = .ok (.iload 4, 2) := dk_21 4 (dk_at dksX5_two_7 14 rfl rfl)
theorem dX5_two_178 : decode cX5_two 178 = .ok (.iload 6, 2) := dk_21 6 (dk_at dksX5_two_7 16 rfl rfl)
theorem dX5_two_180 : decode cX5_two 180 = .ok (.if_icmp .eq 19, 3) := dk_159 0 19 (dk_at dksX5_two_7 18 rfl rfl)
theorem dX5_two_183 : decode cX5_two 183 = .ok (.aload_n 0, 1) := dk_42 (dk_at dksX5_two_7 21 rfl rfl)
theorem dX5_two_184 : decode cX5_two 184 = .ok (.aload_n 0, 1) := dk_42 (dk_at dksX5_two_7 22 rfl rfl)
theorem dX5_two_185 : decode cX5_two 185 = .ok (.getfield 99, 3) := dk_180 0 99 (dk_at dksX5_two_8 0 rfl rfl)
theorem dX5_two_188 : decode cX5_two 188 = .ok (.iconst 1, 1) := dk_4 (dk_at dksX5_two_8 3 rfl rfl)
theorem dX5_two_189 : decode cX5_two 189 = .ok (.iload_n 2, 1) := dk_28 (dk_at dksX5_two_8 4 rfl rfl)
theorem dX5_two_190 : decode cX5_two 190 = .ok (.ishl, 1) := dk_120 (dk_at dksX5_two_8 5 rfl rfl)
theorem dX5_two_191 : decode cX5_two 191 = .ok (.ixor, 1) := dk_130 (dk_at dksX5_two_8 6 rfl rfl)
theorem dX5_two_192 : decode cX5_two 192 = .ok (.iconst 1, 1) := dk_4 (dk_at dksX5_two_8 7 rfl rfl)
theorem dX5_two_193 : decode cX5_two 193 = .ok (.iload_n 3, 1) := dk_29 (dk_at dksX5_two_8 8 rfl rfl)
theorem dX5_two_194 : decode cX5_two 194 = .ok (.ishl, 1) := dk_120 (dk_at dksX5_two_8 9 rfl rfl)
theorem dX5_two_195 : decode cX5_two 195 = .ok (.ixor, 1) := dk_130 (dk_at dksX5_two_8 10 rfl rfl)
theorem dX5_two_196 : decode cX5_two 196 = .ok (.putfield 99, 3) := dk_181 0 99 (dk_at dksX5_two_8 11 rfl rfl)
theorem dX5_two_199 : decode cX5_two 199 = .ok (.iload 5, 2) := dk_21 5 (dk_at dksX5_two_8 14 rfl rfl)
theorem dX5_two_201 : decode cX5_two 201 = .ok (.iload 7, 2) := dk_21 7 (dk_at dksX5_two_8 16 rfl rfl)
theorem dX5_two_203 : decode cX5_two 203 = .ok (.if_icmp .eq 19, 3) := dk_159 0 19 (dk_at dksX5_two_8 18 rfl rfl)
theorem dX5_two_206 : decode cX5_two 206 = .ok (.aload_n 0, 1) := dk_42 (dk_at dksX5_two_8 21 rfl rfl)
theorem dX5_two_207 : decode cX5_two 207 = .ok (.aload_n 0, 1) := dk_42 (dk_at dksX5_two_8 22 rfl rfl)
theorem dX5_two_208 : decode cX5_two 208 = .ok (.getfield 102, 3) := dk_180 0 102 (dk_at dksX5_two_9 0 rfl rfl)
theorem dX5_two_211 : decode cX5_two 211 = .ok (.iconst 1, 1) := dk_4 (dk_at dksX5_two_9 3 rfl rfl)
theorem dX5_two_212 : decode cX5_two 212 = .ok (.iload_n 2, 1) := dk_28 (dk_at dksX5_two_9 4 rfl rfl)
theorem dX5_two_213 : decode cX5_two 213 = .ok (.ishl, 1) := dk_120 (dk_at dksX5_two_9 5 rfl rfl)
theorem dX5_two_214 : decode cX5_two 214 = .ok (.ixor, 1) := dk_130 (dk_at dksX5_two_9 6 rfl rfl)
theorem dX5_two_215 : decode cX5_two 215 = .ok (.iconst 1, 1) := dk_4 (dk_at dksX5_two_9 7 rfl rfl)
theorem dX5_two_216 : decode cX5_two 216 = .ok (.iload_n 3, 1) := dk_29 (dk_at dksX5_two_9 8 rfl rfl)
theorem dX5_two_217 : decode cX5_two 217 = .ok (.ishl, 1) := dk_120 (dk_at dksX5_two_9 9 rfl rfl)
theorem dX5_two_218 : decode cX5_two 218 = .ok (.ixor, 1) := dk_130 (dk_at dksX5_two_9 10 rfl rfl)
theorem dX5_two_219 : decode cX5_two 219 = .ok (.putfield 102, 3) := dk_181 0 102 (dk_at dksX5_two_9 11 rfl rfl)
theorem dX5_two_222 : decode cX5_two 222 = .ok (.return_, 1) := dk_177 (dk_at dksX5_two_9 14 rfl rfl)
abbrev cX5_laysRow : ByteArray := prog_16_method_20_code
def yX5_laysRow : MethodName := ⟨RX5, "laysRow", "(I)V"⟩
def dkwX5_laysRow_1 : List UInt8 := [180, 0, 102, 79, 42, 180, 0, 7, 16, 22, 27, 96, 42, 180, 0, 105, 79, 177]
abbrev dktX5_laysRow_1 : List UInt8 := dkwX5_laysRow_1 ++ []
def dkwX5_laysRow_0 : List UInt8 := [42, 180, 0, 7, 16, 6, 27, 96, 42, 180, 0, 99, 79, 42, 180, 0, 7, 16, 14, 27, 96, 42]
abbrev dktX5_laysRow_0 : List UInt8 := dkwX5_laysRow_0 ++ dktX5_laysRow_1
theorem dksX5_laysRow_0 : cX5_laysRow.data.toList.drop 0 = dktX5_laysRow_0 := by decide +kernel
theorem dksX5_laysRow_1 : cX5_laysRow.data.toList.drop 22 = dktX5_laysRow_1 := dk_seg dksX5_laysRow_0 22 rfl rfl
theorem dX5_laysRow_0 : decode cX5_laysRow 0 = .ok (.aload_n 0, 1) := dk_42 (dk_at dksX5_laysRow_0 0 rfl rfl)
theorem dX5_laysRow_1 : decode cX5_laysRow 1 = .ok (.getfield 7, 3) := dk_180 0 7 (dk_at dksX5_laysRow_0 1 rfl rfl)
theorem dX5_laysRow_4 : decode cX5_laysRow 4 = .ok (.bipush 6, 2) := dk_16 6 (dk_at dksX5_laysRow_0 4 rfl rfl)
theorem dX5_laysRow_6 : decode cX5_laysRow 6 = .ok (.iload_n 1, 1) := dk_27 (dk_at dksX5_laysRow_0 6 rfl rfl)
theorem dX5_laysRow_7 : decode cX5_laysRow 7 = .ok (.iadd, 1) := dk_96 (dk_at dksX5_laysRow_0 7 rfl rfl)
theorem dX5_laysRow_8 : decode cX5_laysRow 8 = .ok (.aload_n 0, 1) := dk_42 (dk_at dksX5_laysRow_0 8 rfl rfl)
theorem dX5_laysRow_9 : decode cX5_laysRow 9 = .ok (.getfield 99, 3) := dk_180 0 99 (dk_at dksX5_laysRow_0 9 rfl rfl)
theorem dX5_laysRow_12 : decode cX5_laysRow 12 = .ok (.iastore, 1) := dk_79 (dk_at dksX5_laysRow_0 12 rfl rfl)
theorem dX5_laysRow_13 : decode cX5_laysRow 13 = .ok (.aload_n 0, 1) := dk_42 (dk_at dksX5_laysRow_0 13 rfl rfl)
theorem dX5_laysRow_14 : decode cX5_laysRow 14 = .ok (.getfield 7, 3) := dk_180 0 7 (dk_at dksX5_laysRow_0 14 rfl rfl)
theorem dX5_laysRow_17 : decode cX5_laysRow 17 = .ok (.bipush 14, 2) := dk_16 14 (dk_at dksX5_laysRow_0 17 rfl rfl)
theorem dX5_laysRow_19 : decode cX5_laysRow 19 = .ok (.iload_n 1, 1) := dk_27 (dk_at dksX5_laysRow_0 19 rfl rfl)
theorem dX5_laysRow_20 : decode cX5_laysRow 20 = .ok (.iadd, 1) := dk_96 (dk_at dksX5_laysRow_0 20 rfl rfl)
theorem dX5_laysRow_21 : decode cX5_laysRow 21 = .ok (.aload_n 0, 1) := dk_42 (dk_at dksX5_laysRow_0 21 rfl rfl)
theorem dX5_laysRow_22 : decode cX5_laysRow 22 = .ok (.getfield 102, 3) := dk_180 0 102 (dk_at dksX5_laysRow_1 0 rfl rfl)
theorem dX5_laysRow_25 : decode cX5_laysRow 25 = .ok (.iastore, 1) := dk_79 (dk_at dksX5_laysRow_1 3 rfl rfl)
theorem dX5_laysRow_26 : decode cX5_laysRow 26 = .ok (.aload_n 0, 1) := dk_42 (dk_at dksX5_laysRow_1 4 rfl rfl)
theorem dX5_laysRow_27 : decode cX5_laysRow 27 = .ok (.getfield 7, 3) := dk_180 0 7 (dk_at dksX5_laysRow_1 5 rfl rfl)
theorem dX5_laysRow_30 : decode cX5_laysRow 30 = .ok (.bipush 22, 2) := dk_16 22 (dk_at dksX5_laysRow_1 8 rfl rfl)
theorem dX5_laysRow_32 : decode cX5_laysRow 32 = .ok (.iload_n 1, 1) := dk_27 (dk_at dksX5_laysRow_1 10 rfl rfl)
theorem dX5_laysRow_33 : decode cX5_laysRow 33 = .ok (.iadd, 1) := dk_96 (dk_at dksX5_laysRow_1 11 rfl rfl)
theorem dX5_laysRow_34 : decode cX5_laysRow 34 = .ok (.aload_n 0, 1) := dk_42 (dk_at dksX5_laysRow_1 12 rfl rfl)
theorem dX5_laysRow_35 : decode cX5_laysRow 35 = .ok (.getfield 105, 3) := dk_180 0 105 (dk_at dksX5_laysRow_1 13 rfl rfl)
theorem dX5_laysRow_38 : decode cX5_laysRow 38 = .ok (.iastore, 1) := dk_79 (dk_at dksX5_laysRow_1 16 rfl rfl)
theorem dX5_laysRow_39 : decode cX5_laysRow 39 = .ok (.return_, 1) := dk_177 (dk_at dksX5_laysRow_1 17 rfl rfl)
abbrev cX5_trails : ByteArray := prog_16_method_27_code
def yX5_trails : MethodName := ⟨RX5, "trails", "(III)V"⟩
def dkwX5_trails_4 : List UInt8 := [96, 29, 79, 42, 180, 0, 7, 8, 42, 180, 0, 7, 8, 46, 4, 96, 79, 177]
abbrev dktX5_trails_4 : List UInt8 := dkwX5_trails_4 ++ []
def dkwX5_trails_3 : List UInt8 := [180, 0, 7, 21, 4, 27, 79, 42, 180, 0, 7, 21, 4, 4, 96, 28, 79, 42, 180, 0, 7, 21, 4, 5]
abbrev dktX5_trails_3 : List UInt8 := dkwX5_trails_3 ++ dktX5_trails_4
def dkwX5_trails_2 : List UInt8 := [180, 0, 7, 8, 16, 79, 79, 17, 0, 230, 6, 42, 180, 0, 7, 8, 46, 104, 96, 54, 4, 42]
abbrev dktX5_trails_2 : List UInt8 := dkwX5_trails_2 ++ dktX5_trails_3
def dkwX5_trails_1 : List UInt8 := [42, 180, 0, 7, 21, 4, 42, 180, 0, 7, 21, 4, 6, 96, 46, 79, 132, 4, 1, 167, 255, 229, 42]
abbrev dktX5_trails_1 : List UInt8 := dkwX5_trails_1 ++ dktX5_trails_2
def dkwX5_trails_0 : List UInt8 := [42, 180, 0, 7, 8, 46, 16, 80, 160, 0, 46, 17, 0, 230, 54, 4, 21, 4, 17, 1, 211, 162, 0, 25]
abbrev dktX5_trails_0 : List UInt8 := dkwX5_trails_0 ++ dktX5_trails_1
theorem dksX5_trails_0 : cX5_trails.data.toList.drop 0 = dktX5_trails_0 := by decide +kernel
theorem dksX5_trails_1 : cX5_trails.data.toList.drop 24 = dktX5_trails_1 := dk_seg dksX5_trails_0 24 rfl rfl
theorem dksX5_trails_2 : cX5_trails.data.toList.drop 47 = dktX5_trails_2 := dk_seg dksX5_trails_1 23 rfl rfl
theorem dksX5_trails_3 : cX5_trails.data.toList.drop 69 = dktX5_trails_3 := dk_seg dksX5_trails_2 22 rfl rfl
theorem dksX5_trails_4 : cX5_trails.data.toList.drop 93 = dktX5_trails_4 := dk_seg dksX5_trails_3 24 rfl rfl
theorem dX5_trails_0 : decode cX5_trails 0 = .ok (.aload_n 0, 1) := dk_42 (dk_at dksX5_trails_0 0 rfl rfl)
theorem dX5_trails_1 : decode cX5_trails 1 = .ok (.getfield 7, 3) := dk_180 0 7 (dk_at dksX5_trails_0 1 rfl rfl)
theorem dX5_trails_4 : decode cX5_trails 4 = .ok (.iconst 5, 1) := dk_8 (dk_at dksX5_trails_0 4 rfl rfl)
theorem dX5_trails_5 : decode cX5_trails 5 = .ok (.iaload, 1) := dk_46 (dk_at dksX5_trails_0 5 rfl rfl)
theorem dX5_trails_6 : decode cX5_trails 6 = .ok (.bipush 80, 2) := dk_16 80 (dk_at dksX5_trails_0 6 rfl rfl)
theorem dX5_trails_8 : decode cX5_trails 8 = .ok (.if_icmp .ne 46, 3) := dk_160 0 46 (dk_at dksX5_trails_0 8 rfl rfl)
theorem dX5_trails_11 : decode cX5_trails 11 = .ok (.sipush 230, 3) := dk_17 0 230 (dk_at dksX5_trails_0 11 rfl rfl)
theorem dX5_trails_14 : decode cX5_trails 14 = .ok (.istore 4, 2) := dk_54 4 (dk_at dksX5_trails_0 14 rfl rfl)
theorem dX5_trails_16 : decode cX5_trails 16 = .ok (.iload 4, 2) := dk_21 4 (dk_at dksX5_trails_0 16 rfl rfl)
theorem dX5_trails_18 : decode cX5_trails 18 = .ok (.sipush 467, 3) := dk_17 1 211 (dk_at dksX5_trails_0 18 rfl rfl)
theorem dX5_trails_21 : decode cX5_trails 21 = .ok (.if_icmp .ge 25, 3) := dk_162 0 25 (dk_at dksX5_trails_0 21 rfl rfl)
theorem dX5_trails_24 : decode cX5_trails 24 = .ok (.aload_n 0, 1) := dk_42 (dk_at dksX5_trails_1 0 rfl rfl)
theorem dX5_trails_25 : decode cX5_trails 25 = .ok (.getfield 7, 3) := dk_180 0 7 (dk_at dksX5_trails_1 1 rfl rfl)
theorem dX5_trails_28 : decode cX5_trails 28 = .ok (.iload 4, 2) := dk_21 4 (dk_at dksX5_trails_1 4 rfl rfl)
theorem dX5_trails_30 : decode cX5_trails 30 = .ok (.aload_n 0, 1) := dk_42 (dk_at dksX5_trails_1 6 rfl rfl)
theorem dX5_trails_31 : decode cX5_trails 31 = .ok (.getfield 7, 3) := dk_180 0 7 (dk_at dksX5_trails_1 7 rfl rfl)
theorem dX5_trails_34 : decode cX5_trails 34 = .ok (.iload 4, 2) := dk_21 4 (dk_at dksX5_trails_1 10 rfl rfl)
theorem dX5_trails_36 : decode cX5_trails 36 = .ok (.iconst 3, 1) := dk_6 (dk_at dksX5_trails_1 12 rfl rfl)
theorem dX5_trails_37 : decode cX5_trails 37 = .ok (.iadd, 1) := dk_96 (dk_at dksX5_trails_1 13 rfl rfl)
theorem dX5_trails_38 : decode cX5_trails 38 = .ok (.iaload, 1) := dk_46 (dk_at dksX5_trails_1 14 rfl rfl)
theorem dX5_trails_39 : decode cX5_trails 39 = .ok (.iastore, 1) := dk_79 (dk_at dksX5_trails_1 15 rfl rfl)
theorem dX5_trails_40 : decode cX5_trails 40 = .ok (.iinc 4 1, 3) := dk_132 4 1 (dk_at dksX5_trails_1 16 rfl rfl)
theorem dX5_trails_43 : decode cX5_trails 43 = .ok (.goto (-27), 3) := dk_167 255 229 (dk_at dksX5_trails_1 19 rfl rfl)
theorem dX5_trails_46 : decode cX5_trails 46 = .ok (.aload_n 0, 1) := dk_42 (dk_at dksX5_trails_1 22 rfl rfl)
theorem dX5_trails_47 : decode cX5_trails 47 = .ok (.getfield 7, 3) := dk_180 0 7 (dk_at dksX5_trails_2 0 rfl rfl)
theorem dX5_trails_50 : decode cX5_trails 50 = .ok (.iconst 5, 1) := dk_8 (dk_at dksX5_trails_2 3 rfl rfl)
theorem dX5_trails_51 : decode cX5_trails 51 = .ok (.bipush 79, 2) := dk_16 79 (dk_at dksX5_trails_2 4 rfl rfl)
theorem dX5_trails_53 : decode cX5_trails 53 = .ok (.iastore, 1) := dk_79 (dk_at dksX5_trails_2 6 rfl rfl)
theorem dX5_trails_54 : decode cX5_trails 54 = .ok (.sipush 230, 3) := dk_17 0 230 (dk_at dksX5_trails_2 7 rfl rfl)
theorem dX5_trails_57 : decode cX5_trails 57 = .ok (.iconst 3, 1) := dk_6 (dk_at dksX5_trails_2 10 rfl rfl)
theorem dX5_trails_58 : decode cX5_trails 58 = .ok (.aload_n 0, 1) := dk_42 (dk_at dksX5_trails_2 11 rfl rfl)
theorem dX5_trails_59 : decode cX5_trails 59 = .ok (.getfield 7, 3) := dk_180 0 7 (dk_at dksX5_trails_2 12 rfl rfl)
theorem dX5_trails_62 : decode cX5_trails 62 = .ok (.iconst 5, 1) := dk_8 (dk_at dksX5_trails_2 15 rfl rfl)
theorem dX5_trails_63 : decode cX5_trails 63 = .ok (.iaload, 1) := dk_46 (dk_at dksX5_trails_2 16 rfl rfl)
theorem dX5_trails_64 : decode cX5_trails 64 = .ok (.imul, 1) := dk_104 (dk_at dksX5_trails_2 17 rfl rfl)
theorem dX5_trails_65 : decode cX5_trails 65 = .ok (.iadd, 1) := dk_96 (dk_at dksX5_trails_2 18 rfl rfl)
theorem dX5_trails_66 : decode cX5_trails 66 = .ok (.istore 4, 2) := dk_54 4 (dk_at dksX5_trails_2 19 rfl rfl)
theorem dX5_trails_68 : decode cX5_trails 68 = .ok (.aload_n 0, 1) := dk_42 (dk_at dksX5_trails_2 21 rfl rfl)
theorem dX5_trails_69 : decode cX5_trails 69 = .ok (.getfield 7, 3) := dk_180 0 7 (dk_at dksX5_trails_3 0 rfl rfl)
theorem dX5_trails_72 : decode cX5_trails 72 = .ok (.iload 4, 2) := dk_21 4 (dk_at dksX5_trails_3 3 rfl rfl)
theorem dX5_trails_74 : decode cX5_trails 74 = .ok (.iload_n 1, 1) := dk_27 (dk_at dksX5_trails_3 5 rfl rfl)
theorem dX5_trails_75 : decode cX5_trails 75 = .ok (.iastore, 1) := dk_79 (dk_at dksX5_trails_3 6 rfl rfl)
theorem dX5_trails_76 : decode cX5_trails 76 = .ok (.aload_n 0, 1) := dk_42 (dk_at dksX5_trails_3 7 rfl rfl)
theorem dX5_trails_77 : decode cX5_trails 77 = .ok (.getfield 7, 3) := dk_180 0 7 (dk_at dksX5_trails_3 8 rfl rfl)
theorem dX5_trails_80 : decode cX5_trails 80 = .ok (.iload 4, 2) := dk_21 4 (dk_at dksX5_trails_3 11 rfl rfl)
theorem dX5_trails_82 : decode cX5_trails 82 = .ok (.iconst 1, 1) := dk_4 (dk_at dksX5_trails_3 13 rfl rfl)
theorem dX5_trails_83 : decode cX5_trails 83 = .ok (.iadd, 1) := dk_96 (dk_at dksX5_trails_3 14 rfl rfl)
theorem dX5_trails_84 : decode cX5_trails 84 = .ok (.iload_n 2, 1) := dk_28 (dk_at dksX5_trails_3 15 rfl rfl)
theorem dX5_trails_85 : decode cX5_trails 85 = .ok (.iastore, 1) := dk_79 (dk_at dksX5_trails_3 16 rfl rfl)
theorem dX5_trails_86 : decode cX5_trails 86 = .ok (.aload_n 0, 1) := dk_42 (dk_at dksX5_trails_3 17 rfl rfl)
theorem dX5_trails_87 : decode cX5_trails 87 = .ok (.getfield 7, 3) := dk_180 0 7 (dk_at dksX5_trails_3 18 rfl rfl)
theorem dX5_trails_90 : decode cX5_trails 90 = .ok (.iload 4, 2) := dk_21 4 (dk_at dksX5_trails_3 21 rfl rfl)
theorem dX5_trails_92 : decode cX5_trails 92 = .ok (.iconst 2, 1) := dk_5 (dk_at dksX5_trails_3 23 rfl rfl)
theorem dX5_trails_93 : decode cX5_trails 93 = .ok (.iadd, 1) := dk_96 (dk_at dksX5_trails_4 0 rfl rfl)
theorem dX5_trails_94 : decode cX5_trails 94 = .ok (.iload_n 3, 1) := dk_29 (dk_at dksX5_trails_4 1 rfl rfl)
theorem dX5_trails_95 : decode cX5_trails 95 = .ok (.iastore, 1) := dk_79 (dk_at dksX5_trails_4 2 rfl rfl)
theorem dX5_trails_96 : decode cX5_trails 96 = .ok (.aload_n 0, 1) := dk_42 (dk_at dksX5_trails_4 3 rfl rfl)
theorem dX5_trails_97 : decode cX5_trails 97 = .ok (.getfield 7, 3) := dk_180 0 7 (dk_at dksX5_trails_4 4 rfl rfl)
theorem dX5_trails_100 : decode cX5_trails 100 = .ok (.iconst 5, 1) := dk_8 (dk_at dksX5_trails_4 7 rfl rfl)
theorem dX5_trails_101 : decode cX5_trails 101 = .ok (.aload_n 0, 1) := dk_42 (dk_at dksX5_trails_4 8 rfl rfl)
theorem dX5_trails_102 : decode cX5_trails 102 = .ok (.getfield 7, 3) := dk_180 0 7 (dk_at dksX5_trails_4 9 rfl rfl)
theorem dX5_trails_105 : decode cX5_trails 105 = .ok (.iconst 5, 1) := dk_8 (dk_at dksX5_trails_4 12 rfl rfl)
theorem dX5_trails_106 : decode cX5_trails 106 = .ok (.iaload, 1) := dk_46 (dk_at dksX5_trails_4 13 rfl rfl)
theorem dX5_trails_107 : decode cX5_trails 107 = .ok (.iconst 1, 1) := dk_4 (dk_at dksX5_trails_4 14 rfl rfl)
theorem dX5_trails_108 : decode cX5_trails 108 = .ok (.iadd, 1) := dk_96 (dk_at dksX5_trails_4 15 rfl rfl)
theorem dX5_trails_109 : decode cX5_trails 109 = .ok (.iastore, 1) := dk_79 (dk_at dksX5_trails_4 16 rfl rfl)
theorem dX5_trails_110 : decode cX5_trails 110 = .ok (.return_, 1) := dk_177 (dk_at dksX5_trails_4 17 rfl rfl)
abbrev cX5_keeps : ByteArray := prog_16_method_10_code
def yX5_keeps : MethodName := ⟨RX5, "keeps", "()V"⟩
def dkwX5_keeps_4 : List UInt8 := [181, 0, 77, 177]
abbrev dktX5_keeps_4 : List UInt8 := dkwX5_keeps_4 ++ []
def dkwX5_keeps_3 : List UInt8 := [27, 96, 42, 180, 0, 13, 27, 46, 79, 132, 1, 1, 167, 255, 225, 42, 42, 180, 0, 77, 4, 96]
abbrev dktX5_keeps_3 : List UInt8 := dkwX5_keeps_3 ++ dktX5_keeps_4
def dkwX5_keeps_2 : List UInt8 := [181, 0, 77, 3, 60, 27, 17, 2, 18, 162, 0, 30, 42, 180, 0, 19, 17, 2, 18, 42, 180, 0, 77, 104]
abbrev dktX5_keeps_2 : List UInt8 := dkwX5_keeps_2 ++ dktX5_keeps_3
def dkwX5_keeps_1 : List UInt8 := [180, 0, 19, 27, 17, 2, 18, 96, 46, 79, 132, 1, 1, 167, 255, 230, 42, 42, 180, 0, 77, 4, 100]
abbrev dktX5_keeps_1 : List UInt8 := dkwX5_keeps_1 ++ dktX5_keeps_2
def dkwX5_keeps_0 : List UInt8 := [42, 180, 0, 77, 16, 10, 160, 0, 44, 3, 60, 27, 17, 18, 162, 162, 0, 25, 42, 180, 0, 19, 27, 42]
abbrev dktX5_keeps_0 : List UInt8 := dkwX5_keeps_0 ++ dktX5_keeps_1
theorem dksX5_keeps_0 : cX5_keeps.data.toList.drop 0 = dktX5_keeps_0 := by decide +kernel
theorem dksX5_keeps_1 : cX5_keeps.data.toList.drop 24 = dktX5_keeps_1 := dk_seg dksX5_keeps_0 24 rfl rfl
theorem dksX5_keeps_2 : cX5_keeps.data.toList.drop 47 = dktX5_keeps_2 := dk_seg dksX5_keeps_1 23 rfl rfl
theorem dksX5_keeps_3 : cX5_keeps.data.toList.drop 71 = dktX5_keeps_3 := dk_seg dksX5_keeps_2 24 rfl rfl
theorem dksX5_keeps_4 : cX5_keeps.data.toList.drop 93 = dktX5_keeps_4 := dk_seg dksX5_keeps_3 22 rfl rfl
theorem dX5_keeps_0 : decode cX5_keeps 0 = .ok (.aload_n 0, 1) := dk_42 (dk_at dksX5_keeps_0 0 rfl rfl)
theorem dX5_keeps_1 : decode cX5_keeps 1 = .ok (.getfield 77, 3) := dk_180 0 77 (dk_at dksX5_keeps_0 1 rfl rfl)
theorem dX5_keeps_4 : decode cX5_keeps 4 = .ok (.bipush 10, 2) := dk_16 10 (dk_at dksX5_keeps_0 4 rfl rfl)
theorem dX5_keeps_6 : decode cX5_keeps 6 = .ok (.if_icmp .ne 44, 3) := dk_160 0 44 (dk_at dksX5_keeps_0 6 rfl rfl)
theorem dX5_keeps_9 : decode cX5_keeps 9 = .ok (.iconst 0, 1) := dk_3 (dk_at dksX5_keeps_0 9 rfl rfl)
theorem dX5_keeps_10 : decode cX5_keeps 10 = .ok (.istore_n 1, 1) := dk_60 (dk_at dksX5_keeps_0 10 rfl rfl)
theorem dX5_keeps_11 : decode cX5_keeps 11 = .ok (.iload_n 1, 1) := dk_27 (dk_at dksX5_keeps_0 11 rfl rfl)
theorem dX5_keeps_12 : decode cX5_keeps 12 = .ok (.sipush 4770, 3) := dk_17 18 162 (dk_at dksX5_keeps_0 12 rfl rfl)
theorem dX5_keeps_15 : decode cX5_keeps 15 = .ok (.if_icmp .ge 25, 3) := dk_162 0 25 (dk_at dksX5_keeps_0 15 rfl rfl)
theorem dX5_keeps_18 : decode cX5_keeps 18 = .ok (.aload_n 0, 1) := dk_42 (dk_at dksX5_keeps_0 18 rfl rfl)
theorem dX5_keeps_19 : decode cX5_keeps 19 = .ok (.getfield 19, 3) := dk_180 0 19 (dk_at dksX5_keeps_0 19 rfl rfl)
theorem dX5_keeps_22 : decode cX5_keeps 22 = .ok (.iload_n 1, 1) := dk_27 (dk_at dksX5_keeps_0 22 rfl rfl)
theorem dX5_keeps_23 : decode cX5_keeps 23 = .ok (.aload_n 0, 1) := dk_42 (dk_at dksX5_keeps_0 23 rfl rfl)
theorem dX5_keeps_24 : decode cX5_keeps 24 = .ok (.getfield 19, 3) := dk_180 0 19 (dk_at dksX5_keeps_1 0 rfl rfl)
theorem dX5_keeps_27 : decode cX5_keeps 27 = .ok (.iload_n 1, 1) := dk_27 (dk_at dksX5_keeps_1 3 rfl rfl)
theorem dX5_keeps_28 : decode cX5_keeps 28 = .ok (.sipush 530, 3) := dk_17 2 18 (dk_at dksX5_keeps_1 4 rfl rfl)
theorem dX5_keeps_31 : decode cX5_keeps 31 = .ok (.iadd, 1) := dk_96 (dk_at dksX5_keeps_1 7 rfl rfl)
theorem dX5_keeps_32 : decode cX5_keeps 32 = .ok (.iaload, 1) := dk_46 (dk_at dksX5_keeps_1 8 rfl rfl)
theorem dX5_keeps_33 : decode cX5_keeps 33 = .ok (.iastore, 1) := dk_79 (dk_at dksX5_keeps_1 9 rfl rfl)
theorem dX5_keeps_34 : decode cX5_keeps 34 = .ok (.iinc 1 1, 3) := dk_132 1 1 (dk_at dksX5_keeps_1 10 rfl rfl)
theorem dX5_keeps_37 : decode cX5_keeps 37 = .ok (.goto (-26), 3) := dk_167 255 230 (dk_at dksX5_keeps_1 13 rfl rfl)
theorem dX5_keeps_40 : decode cX5_keeps 40 = .ok (.aload_n 0, 1) := dk_42 (dk_at dksX5_keeps_1 16 rfl rfl)
theorem dX5_keeps_41 : decode cX5_keeps 41 = .ok (.aload_n 0, 1) := dk_42 (dk_at dksX5_keeps_1 17 rfl rfl)
theorem dX5_keeps_42 : decode cX5_keeps 42 = .ok (.getfield 77, 3) := dk_180 0 77 (dk_at dksX5_keeps_1 18 rfl rfl)
theorem dX5_keeps_45 : decode cX5_keeps 45 = .ok (.iconst 1, 1) := dk_4 (dk_at dksX5_keeps_1 21 rfl rfl)
theorem dX5_keeps_46 : decode cX5_keeps 46 = .ok (.isub, 1) := dk_100 (dk_at dksX5_keeps_1 22 rfl rfl)
theorem dX5_keeps_47 : decode cX5_keeps 47 = .ok (.putfield 77, 3) := dk_181 0 77 (dk_at dksX5_keeps_2 0 rfl rfl)
theorem dX5_keeps_50 : decode cX5_keeps 50 = .ok (.iconst 0, 1) := dk_3 (dk_at dksX5_keeps_2 3 rfl rfl)
theorem dX5_keeps_51 : decode cX5_keeps 51 = .ok (.istore_n 1, 1) := dk_60 (dk_at dksX5_keeps_2 4 rfl rfl)
theorem dX5_keeps_52 : decode cX5_keeps 52 = .ok (.iload_n 1, 1) := dk_27 (dk_at dksX5_keeps_2 5 rfl rfl)
theorem dX5_keeps_53 : decode cX5_keeps 53 = .ok (.sipush 530, 3) := dk_17 2 18 (dk_at dksX5_keeps_2 6 rfl rfl)
theorem dX5_keeps_56 : decode cX5_keeps 56 = .ok (.if_icmp .ge 30, 3) := dk_162 0 30 (dk_at dksX5_keeps_2 9 rfl rfl)
theorem dX5_keeps_59 : decode cX5_keeps 59 = .ok (.aload_n 0, 1) := dk_42 (dk_at dksX5_keeps_2 12 rfl rfl)
theorem dX5_keeps_60 : decode cX5_keeps 60 = .ok (.getfield 19, 3) := dk_180 0 19 (dk_at dksX5_keeps_2 13 rfl rfl)
theorem dX5_keeps_63 : decode cX5_keeps 63 = .ok (.sipush 530, 3) := dk_17 2 18 (dk_at dksX5_keeps_2 16 rfl rfl)
theorem dX5_keeps_66 : decode cX5_keeps 66 = .ok (.aload_n 0, 1) := dk_42 (dk_at dksX5_keeps_2 19 rfl rfl)
theorem dX5_keeps_67 : decode cX5_keeps 67 = .ok (.getfield 77, 3) := dk_180 0 77 (dk_at dksX5_keeps_2 20 rfl rfl)
theorem dX5_keeps_70 : decode cX5_keeps 70 = .ok (.imul, 1) := dk_104 (dk_at dksX5_keeps_2 23 rfl rfl)
theorem dX5_keeps_71 : decode cX5_keeps 71 = .ok (.iload_n 1, 1) := dk_27 (dk_at dksX5_keeps_3 0 rfl rfl)
theorem dX5_keeps_72 : decode cX5_keeps 72 = .ok (.iadd, 1) := dk_96 (dk_at dksX5_keeps_3 1 rfl rfl)
theorem dX5_keeps_73 : decode cX5_keeps 73 = .ok (.aload_n 0, 1) := dk_42 (dk_at dksX5_keeps_3 2 rfl rfl)
theorem dX5_keeps_74 : decode cX5_keeps 74 = .ok (.getfield 13, 3) := dk_180 0 13 (dk_at dksX5_keeps_3 3 rfl rfl)
theorem dX5_keeps_77 : decode cX5_keeps 77 = .ok (.iload_n 1, 1) := dk_27 (dk_at dksX5_keeps_3 6 rfl rfl)
theorem dX5_keeps_78 : decode cX5_keeps 78 = .ok (.iaload, 1) := dk_46 (dk_at dksX5_keeps_3 7 rfl rfl)
theorem dX5_keeps_79 : decode cX5_keeps 79 = .ok (.iastore, 1) := dk_79 (dk_at dksX5_keeps_3 8 rfl rfl)
theorem dX5_keeps_80 : decode cX5_keeps 80 = .ok (.iinc 1 1, 3) := dk_132 1 1 (dk_at dksX5_keeps_3 9 rfl rfl)
theorem dX5_keeps_83 : decode cX5_keeps 83 = .ok (.goto (-31), 3) := dk_167 255 225 (dk_at dksX5_keeps_3 12 rfl rfl)
theorem dX5_keeps_86 : decode cX5_keeps 86 = .ok (.aload_n 0, 1) := dk_42 (dk_at dksX5_keeps_3 15 rfl rfl)
theorem dX5_keeps_87 : decode cX5_keeps 87 = .ok (.aload_n 0, 1) := dk_42 (dk_at dksX5_keeps_3 16 rfl rfl)
theorem dX5_keeps_88 : decode cX5_keeps 88 = .ok (.getfield 77, 3) := dk_180 0 77 (dk_at dksX5_keeps_3 17 rfl rfl)
theorem dX5_keeps_91 : decode cX5_keeps 91 = .ok (.iconst 1, 1) := dk_4 (dk_at dksX5_keeps_3 20 rfl rfl)
theorem dX5_keeps_92 : decode cX5_keeps 92 = .ok (.iadd, 1) := dk_96 (dk_at dksX5_keeps_3 21 rfl rfl)
theorem dX5_keeps_93 : decode cX5_keeps 93 = .ok (.putfield 77, 3) := dk_181 0 77 (dk_at dksX5_keeps_4 0 rfl rfl)
theorem dX5_keeps_96 : decode cX5_keeps 96 = .ok (.return_, 1) := dk_177 (dk_at dksX5_keeps_4 3 rfl rfl)
abbrev cX5_changed : ByteArray := prog_16_method_12_code
def yX5_changed : MethodName := ⟨RX5, "changed", "()I"⟩
def dkwX5_changed_3 : List UInt8 := [96, 46, 159, 0, 7, 27, 4, 96, 60, 132, 2, 1, 167, 255, 176, 27, 172]
abbrev dktX5_changed_3 : List UInt8 := dkwX5_changed_3 ++ []
def dkwX5_changed_2 : List UInt8 := [16, 14, 28, 96, 46, 160, 0, 24, 42, 180, 0, 7, 16, 22, 28, 96, 46, 42, 180, 0, 13, 16, 22, 28]
abbrev dktX5_changed_2 : List UInt8 := dkwX5_changed_2 ++ dktX5_changed_3
def dkwX5_changed_1 : List UInt8 := [180, 0, 13, 16, 6, 28, 96, 46, 160, 0, 45, 42, 180, 0, 7, 16, 14, 28, 96, 46, 42, 180, 0, 13]
abbrev dktX5_changed_1 : List UInt8 := dkwX5_changed_1 ++ dktX5_changed_2
def dkwX5_changed_0 : List UInt8 := [3, 60, 3, 61, 28, 42, 180, 0, 7, 3, 46, 162, 0, 76, 42, 180, 0, 7, 16, 6, 28, 96, 46, 42]
abbrev dktX5_changed_0 : List UInt8 := dkwX5_changed_0 ++ dktX5_changed_1
theorem dksX5_changed_0 : cX5_changed.data.toList.drop 0 = dktX5_changed_0 := by decide +kernel
theorem dksX5_changed_1 : cX5_changed.data.toList.drop 24 = dktX5_changed_1 := dk_seg dksX5_changed_0 24 rfl rfl
theorem dksX5_changed_2 : cX5_changed.data.toList.drop 48 = dktX5_changed_2 := dk_seg dksX5_changed_1 24 rfl rfl
theorem dksX5_changed_3 : cX5_changed.data.toList.drop 72 = dktX5_changed_3 := dk_seg dksX5_changed_2 24 rfl rfl
theorem dX5_changed_0 : decode cX5_changed 0 = .ok (.iconst 0, 1) := dk_3 (dk_at dksX5_changed_0 0 rfl rfl)
theorem dX5_changed_1 : decode cX5_changed 1 = .ok (.istore_n 1, 1) := dk_60 (dk_at dksX5_changed_0 1 rfl rfl)
theorem dX5_changed_2 : decode cX5_changed 2 = .ok (.iconst 0, 1) := dk_3 (dk_at dksX5_changed_0 2 rfl rfl)
theorem dX5_changed_3 : decode cX5_changed 3 = .ok (.istore_n 2, 1) := dk_61 (dk_at dksX5_changed_0 3 rfl rfl)
theorem dX5_changed_4 : decode cX5_changed 4 = .ok (.iload_n 2, 1) := dk_28 (dk_at dksX5_changed_0 4 rfl rfl)
theorem dX5_changed_5 : decode cX5_changed 5 = .ok (.aload_n 0, 1) := dk_42 (dk_at dksX5_changed_0 5 rfl rfl)
theorem dX5_changed_6 : decode cX5_changed 6 = .ok (.getfield 7, 3) := dk_180 0 7 (dk_at dksX5_changed_0 6 rfl rfl)
theorem dX5_changed_9 : decode cX5_changed 9 = .ok (.iconst 0, 1) := dk_3 (dk_at dksX5_changed_0 9 rfl rfl)
theorem dX5_changed_10 : decode cX5_changed 10 = .ok (.iaload, 1) := dk_46 (dk_at dksX5_changed_0 10 rfl rfl)
theorem dX5_changed_11 : decode cX5_changed 11 = .ok (.if_icmp .ge 76, 3) := dk_162 0 76 (dk_at dksX5_changed_0 11 rfl rfl)
theorem dX5_changed_14 : decode cX5_changed 14 = .ok (.aload_n 0, 1) := dk_42 (dk_at dksX5_changed_0 14 rfl rfl)
theorem dX5_changed_15 : decode cX5_changed 15 = .ok (.getfield 7, 3) := dk_180 0 7 (dk_at dksX5_changed_0 15 rfl rfl)
theorem dX5_changed_18 : decode cX5_changed 18 = .ok (.bipush 6, 2) := dk_16 6 (dk_at dksX5_changed_0 18 rfl rfl)
theorem dX5_changed_20 : decode cX5_changed 20 = .ok (.iload_n 2, 1) := dk_28 (dk_at dksX5_changed_0 20 rfl rfl)
theorem dX5_changed_21 : decode cX5_changed 21 = .ok (.iadd, 1) := dk_96 (dk_at dksX5_changed_0 21 rfl rfl)
theorem dX5_changed_22 : decode cX5_changed 22 = .ok (.iaload, 1) := dk_46 (dk_at dksX5_changed_0 22 rfl rfl)
theorem dX5_changed_23 : decode cX5_changed 23 = .ok (.aload_n 0, 1) := dk_42 (dk_at dksX5_changed_0 23 rfl rfl)
theorem dX5_changed_24 : decode cX5_changed 24 = .ok (.getfield 13, 3) := dk_180 0 13 (dk_at dksX5_changed_1 0 rfl rfl)
theorem dX5_changed_27 : decode cX5_changed 27 = .ok (.bipush 6, 2) := dk_16 6 (dk_at dksX5_changed_1 3 rfl rfl)
theorem dX5_changed_29 : decode cX5_changed 29 = .ok (.iload_n 2, 1) := dk_28 (dk_at dksX5_changed_1 5 rfl rfl)
theorem dX5_changed_30 : decode cX5_changed 30 = .ok (.iadd, 1) := dk_96 (dk_at dksX5_changed_1 6 rfl rfl)
theorem dX5_changed_31 : decode cX5_changed 31 = .ok (.iaload, 1) := dk_46 (dk_at dksX5_changed_1 7 rfl rfl)
theorem dX5_changed_32 : decode cX5_changed 32 = .ok (.if_icmp .ne 45, 3) := dk_160 0 45 (dk_at dksX5_changed_1 8 rfl rfl)
theorem dX5_changed_35 : decode cX5_changed 35 = .ok (.aload_n 0, 1) := dk_42 (dk_at dksX5_changed_1 11 rfl rfl)
theorem dX5_changed_36 : decode cX5_changed 36 = .ok (.getfield 7, 3) := dk_180 0 7 (dk_at dksX5_changed_1 12 rfl rfl)
theorem dX5_changed_39 : decode cX5_changed 39 = .ok (.bipush 14, 2) := dk_16 14 (dk_at dksX5_changed_1 15 rfl rfl)
theorem dX5_changed_41 : decode cX5_changed 41 = .ok (.iload_n 2, 1) := dk_28 (dk_at dksX5_changed_1 17 rfl rfl)
theorem dX5_changed_42 : decode cX5_changed 42 = .ok (.iadd, 1) := dk_96 (dk_at dksX5_changed_1 18 rfl rfl)
theorem dX5_changed_43 : decode cX5_changed 43 = .ok (.iaload, 1) := dk_46 (dk_at dksX5_changed_1 19 rfl rfl)
theorem dX5_changed_44 : decode cX5_changed 44 = .ok (.aload_n 0, 1) := dk_42 (dk_at dksX5_changed_1 20 rfl rfl)
theorem dX5_changed_45 : decode cX5_changed 45 = .ok (.getfield 13, 3) := dk_180 0 13 (dk_at dksX5_changed_1 21 rfl rfl)
theorem dX5_changed_48 : decode cX5_changed 48 = .ok (.bipush 14, 2) := dk_16 14 (dk_at dksX5_changed_2 0 rfl rfl)
theorem dX5_changed_50 : decode cX5_changed 50 = .ok (.iload_n 2, 1) := dk_28 (dk_at dksX5_changed_2 2 rfl rfl)
theorem dX5_changed_51 : decode cX5_changed 51 = .ok (.iadd, 1) := dk_96 (dk_at dksX5_changed_2 3 rfl rfl)
theorem dX5_changed_52 : decode cX5_changed 52 = .ok (.iaload, 1) := dk_46 (dk_at dksX5_changed_2 4 rfl rfl)
theorem dX5_changed_53 : decode cX5_changed 53 = .ok (.if_icmp .ne 24, 3) := dk_160 0 24 (dk_at dksX5_changed_2 5 rfl rfl)
theorem dX5_changed_56 : decode cX5_changed 56 = .ok (.aload_n 0, 1) := dk_42 (dk_at dksX5_changed_2 8 rfl rfl)
theorem dX5_changed_57 : decode cX5_changed 57 = .ok (.getfield 7, 3) := dk_180 0 7 (dk_at dksX5_changed_2 9 rfl rfl)
theorem dX5_changed_60 : decode cX5_changed 60 = .ok (.bipush 22, 2) := dk_16 22 (dk_at dksX5_changed_2 12 rfl rfl)
theorem dX5_changed_62 : decode cX5_changed 62 = .ok (.iload_n 2, 1) := dk_28 (dk_at dksX5_changed_2 14 rfl rfl)
theorem dX5_changed_63 : decode cX5_changed 63 = .ok (.iadd, 1) := dk_96 (dk_at dksX5_changed_2 15 rfl rfl)
theorem dX5_changed_64 : decode cX5_changed 64 = .ok (.iaload, 1) := dk_46 (dk_at dksX5_changed_2 16 rfl rfl)
theorem dX5_changed_65 : decode cX5_changed 65 = .ok (.aload_n 0, 1) := dk_42 (dk_at dksX5_changed_2 17 rfl rfl)
theorem dX5_changed_66 : decode cX5_changed 66 = .ok (.getfield 13, 3) := dk_180 0 13 (dk_at dksX5_changed_2 18 rfl rfl)
theorem dX5_changed_69 : decode cX5_changed 69 = .ok (.bipush 22, 2) := dk_16 22 (dk_at dksX5_changed_2 21 rfl rfl)
theorem dX5_changed_71 : decode cX5_changed 71 = .ok (.iload_n 2, 1) := dk_28 (dk_at dksX5_changed_2 23 rfl rfl)
theorem dX5_changed_72 : decode cX5_changed 72 = .ok (.iadd, 1) := dk_96 (dk_at dksX5_changed_3 0 rfl rfl)
theorem dX5_changed_73 : decode cX5_changed 73 = .ok (.iaload, 1) := dk_46 (dk_at dksX5_changed_3 1 rfl rfl)
theorem dX5_changed_74 : decode cX5_changed 74 = .ok (.if_icmp .eq 7, 3) := dk_159 0 7 (dk_at dksX5_changed_3 2 rfl rfl)
theorem dX5_changed_77 : decode cX5_changed 77 = .ok (.iload_n 1, 1) := dk_27 (dk_at dksX5_changed_3 5 rfl rfl)
theorem dX5_changed_78 : decode cX5_changed 78 = .ok (.iconst 1, 1) := dk_4 (dk_at dksX5_changed_3 6 rfl rfl)
theorem dX5_changed_79 : decode cX5_changed 79 = .ok (.iadd, 1) := dk_96 (dk_at dksX5_changed_3 7 rfl rfl)
theorem dX5_changed_80 : decode cX5_changed 80 = .ok (.istore_n 1, 1) := dk_60 (dk_at dksX5_changed_3 8 rfl rfl)
theorem dX5_changed_81 : decode cX5_changed 81 = .ok (.iinc 2 1, 3) := dk_132 2 1 (dk_at dksX5_changed_3 9 rfl rfl)
theorem dX5_changed_84 : decode cX5_changed 84 = .ok (.goto (-80), 3) := dk_167 255 176 (dk_at dksX5_changed_3 12 rfl rfl)
theorem dX5_changed_87 : decode cX5_changed 87 = .ok (.iload_n 1, 1) := dk_27 (dk_at dksX5_changed_3 15 rfl rfl)
theorem dX5_changed_88 : decode cX5_changed 88 = .ok (.ireturn, 1) := dk_172 (dk_at dksX5_changed_3 16 rfl rfl)
abbrev cX5_reverse : ByteArray := prog_16_method_30_code
def yX5_reverse : MethodName := ⟨RX5, "reverse", "(I)I"⟩
def dkwX5_reverse_6 : List UInt8 := [8, 46, 172]
abbrev dktX5_reverse_6 : List UInt8 := dkwX5_reverse_6 ++ []
def dkwX5_reverse_5 : List UInt8 := [180, 0, 7, 29, 5, 96, 46, 182, 0, 154, 132, 2, 1, 167, 255, 171, 42, 182, 0, 160, 42, 180, 0, 7]
abbrev dktX5_reverse_5 : List UInt8 := dkwX5_reverse_5 ++ dktX5_reverse_6
def dkwX5_reverse_4 : List UInt8 := [167, 0, 15, 21, 4, 5, 160, 0, 7, 4, 167, 0, 5, 21, 4, 42, 180, 0, 7, 29, 4, 96, 46, 42]
abbrev dktX5_reverse_4 : List UInt8 := dkwX5_reverse_4 ++ dktX5_reverse_5
def dkwX5_reverse_3 : List UInt8 := [180, 0, 7, 8, 46, 104, 96, 62, 42, 180, 0, 7, 29, 46, 54, 4, 42, 21, 4, 4, 160, 0, 7, 5]
abbrev dktX5_reverse_3 : List UInt8 := dkwX5_reverse_3 ++ dktX5_reverse_4
def dkwX5_reverse_2 : List UInt8 := [27, 162, 0, 86, 42, 180, 0, 7, 8, 42, 180, 0, 7, 8, 46, 4, 100, 79, 17, 0, 230, 6, 42]
abbrev dktX5_reverse_2 : List UInt8 := dkwX5_reverse_2 ++ dktX5_reverse_3
def dkwX5_reverse_1 : List UInt8 := [161, 0, 7, 4, 167, 0, 4, 3, 5, 182, 0, 147, 154, 0, 5, 3, 172, 42, 182, 0, 151, 3, 61, 28]
abbrev dktX5_reverse_1 : List UInt8 := dkwX5_reverse_1 ++ dktX5_reverse_2
def dkwX5_reverse_0 : List UInt8 := [42, 27, 133, 10, 20, 0, 167, 184, 0, 135, 182, 0, 87, 153, 0, 26, 42, 42, 180, 0, 7, 8, 46, 27]
abbrev dktX5_reverse_0 : List UInt8 := dkwX5_reverse_0 ++ dktX5_reverse_1
theorem dksX5_reverse_0 : cX5_reverse.data.toList.drop 0 = dktX5_reverse_0 := by decide +kernel
theorem dksX5_reverse_1 : cX5_reverse.data.toList.drop 24 = dktX5_reverse_1 := dk_seg dksX5_reverse_0 24 rfl rfl
theorem dksX5_reverse_2 : cX5_reverse.data.toList.drop 48 = dktX5_reverse_2 := dk_seg dksX5_reverse_1 24 rfl rfl
theorem dksX5_reverse_3 : cX5_reverse.data.toList.drop 71 = dktX5_reverse_3 := dk_seg dksX5_reverse_2 23 rfl rfl
theorem dksX5_reverse_4 : cX5_reverse.data.toList.drop 95 = dktX5_reverse_4 := dk_seg dksX5_reverse_3 24 rfl rfl
theorem dksX5_reverse_5 : cX5_reverse.data.toList.drop 119 = dktX5_reverse_5 := dk_seg dksX5_reverse_4 24 rfl rfl
theorem dksX5_reverse_6 : cX5_reverse.data.toList.drop 143 = dktX5_reverse_6 := dk_seg dksX5_reverse_5 24 rfl rfl
theorem dX5_reverse_0 : decode cX5_reverse 0 = .ok (.aload_n 0, 1) := dk_42 (dk_at dksX5_reverse_0 0 rfl rfl)
theorem dX5_reverse_1 : decode cX5_reverse 1 = .ok (.iload_n 1, 1) := dk_27 (dk_at dksX5_reverse_0 1 rfl rfl)
theorem dX5_reverse_2 : decode cX5_reverse 2 = .ok (.i2l, 1) := dk_133 (dk_at dksX5_reverse_0 2 rfl rfl)
theorem dX5_reverse_3 : decode cX5_reverse 3 = .ok (.lconst 1, 1) := dk_10 (dk_at dksX5_reverse_0 3 rfl rfl)
theorem dX5_reverse_4 : decode cX5_reverse 4 = .ok (.ldc2_w 167, 3) := dk_20 0 167 (dk_at dksX5_reverse_0 4 rfl rfl)
theorem dX5_reverse_7 : decode cX5_reverse 7 = .ok (.invokestatic 135, 3) := dk_184 0 135 (dk_at dksX5_reverse_0 7 rfl rfl)
theorem dX5_reverse_10 : decode cX5_reverse 10 = .ok (.invokevirtual 87, 3) := dk_182 0 87 (dk_at dksX5_reverse_0 10 rfl rfl)
theorem dX5_reverse_13 : decode cX5_reverse 13 = .ok (.ifCond .eq 26, 3) := dk_153 0 26 (dk_at dksX5_reverse_0 13 rfl rfl)
theorem dX5_reverse_16 : decode cX5_reverse 16 = .ok (.aload_n 0, 1) := dk_42 (dk_at dksX5_reverse_0 16 rfl rfl)
theorem dX5_reverse_17 : decode cX5_reverse 17 = .ok (.aload_n 0, 1) := dk_42 (dk_at dksX5_reverse_0 17 rfl rfl)
theorem dX5_reverse_18 : decode cX5_reverse 18 = .ok (.getfield 7, 3) := dk_180 0 7 (dk_at dksX5_reverse_0 18 rfl rfl)
theorem dX5_reverse_21 : decode cX5_reverse 21 = .ok (.iconst 5, 1) := dk_8 (dk_at dksX5_reverse_0 21 rfl rfl)
theorem dX5_reverse_22 : decode cX5_reverse 22 = .ok (.iaload, 1) := dk_46 (dk_at dksX5_reverse_0 22 rfl rfl)
theorem dX5_reverse_23 : decode cX5_reverse 23 = .ok (.iload_n 1, 1) := dk_27 (dk_at dksX5_reverse_0 23 rfl rfl)
theorem dX5_reverse_24 : decode cX5_reverse 24 = .ok (.if_icmp .lt 7, 3) := dk_161 0 7 (dk_at dksX5_reverse_1 0 rfl rfl)
theorem dX5_reverse_27 : decode cX5_reverse 27 = .ok (.iconst 1, 1) := dk_4 (dk_at dksX5_reverse_1 3 rfl rfl)
theorem dX5_reverse_28 : decode cX5_reverse 28 = .ok (.goto 4, 3) := dk_167 0 4 (dk_at dksX5_reverse_1 4 rfl rfl)
theorem dX5_reverse_31 : decode cX5_reverse 31 = .ok (.iconst 0, 1) := dk_3 (dk_at dksX5_reverse_1 7 rfl rfl)
theorem dX5_reverse_32 : decode cX5_reverse 32 = .ok (.iconst 2, 1) := dk_5 (dk_at dksX5_reverse_1 8 rfl rfl)
theorem dX5_reverse_33 : decode cX5_reverse 33 = .ok (.invokevirtual 147, 3) := dk_182 0 147 (dk_at dksX5_reverse_1 9 rfl rfl)
theorem dX5_reverse_36 : decode cX5_reverse 36 = .ok (.ifCond .ne 5, 3) := dk_154 0 5 (dk_at dksX5_reverse_1 12 rfl rfl)
theorem dX5_reverse_39 : decode cX5_reverse 39 = .ok (.iconst 0, 1) := dk_3 (dk_at dksX5_reverse_1 15 rfl rfl)
theorem dX5_reverse_40 : decode cX5_reverse 40 = .ok (.ireturn, 1) := dk_172 (dk_at dksX5_reverse_1 16 rfl rfl)
theorem dX5_reverse_41 : decode cX5_reverse 41 = .ok (.aload_n 0, 1) := dk_42 (dk_at dksX5_reverse_1 17 rfl rfl)
theorem dX5_reverse_42 : decode cX5_reverse 42 = .ok (.invokevirtual 151, 3) := dk_182 0 151 (dk_at dksX5_reverse_1 18 rfl rfl)
theorem dX5_reverse_45 : decode cX5_reverse 45 = .ok (.iconst 0, 1) := dk_3 (dk_at dksX5_reverse_1 21 rfl rfl)
theorem dX5_reverse_46 : decode cX5_reverse 46 = .ok (.istore_n 2, 1) := dk_61 (dk_at dksX5_reverse_1 22 rfl rfl)
theorem dX5_reverse_47 : decode cX5_reverse 47 = .ok (.iload_n 2, 1) := dk_28 (dk_at dksX5_reverse_1 23 rfl rfl)
theorem dX5_reverse_48 : decode cX5_reverse 48 = .ok (.iload_n 1, 1) := dk_27 (dk_at dksX5_reverse_2 0 rfl rfl)
theorem dX5_reverse_49 : decode cX5_reverse 49 = .ok (.if_icmp .ge 86, 3) := dk_162 0 86 (dk_at dksX5_reverse_2 1 rfl rfl)
theorem dX5_reverse_52 : decode cX5_reverse 52 = .ok (.aload_n 0, 1) := dk_42 (dk_at dksX5_reverse_2 4 rfl rfl)
theorem dX5_reverse_53 : decode cX5_reverse 53 = .ok (.getfield 7, 3) := dk_180 0 7 (dk_at dksX5_reverse_2 5 rfl rfl)
theorem dX5_reverse_56 : decode cX5_reverse 56 = .ok (.iconst 5, 1) := dk_8 (dk_at dksX5_reverse_2 8 rfl rfl)
theorem dX5_reverse_57 : decode cX5_reverse 57 = .ok (.aload_n 0, 1) := dk_42 (dk_at dksX5_reverse_2 9 rfl rfl)
theorem dX5_reverse_58 : decode cX5_reverse 58 = .ok (.getfield 7, 3) := dk_180 0 7 (dk_at dksX5_reverse_2 10 rfl rfl)
theorem dX5_reverse_61 : decode cX5_reverse 61 = .ok (.iconst 5, 1) := dk_8 (dk_at dksX5_reverse_2 13 rfl rfl)
theorem dX5_reverse_62 : decode cX5_reverse 62 = .ok (.iaload, 1) := dk_46 (dk_at dksX5_reverse_2 14 rfl rfl)
theorem dX5_reverse_63 : decode cX5_reverse 63 = .ok (.iconst 1, 1) := dk_4 (dk_at dksX5_reverse_2 15 rfl rfl)
theorem dX5_reverse_64 : decode cX5_reverse 64 = .ok (.isub, 1) := dk_100 (dk_at dksX5_reverse_2 16 rfl rfl)
theorem dX5_reverse_65 : decode cX5_reverse 65 = .ok (.iastore, 1) := dk_79 (dk_at dksX5_reverse_2 17 rfl rfl)
theorem dX5_reverse_66 : decode cX5_reverse 66 = .ok (.sipush 230, 3) := dk_17 0 230 (dk_at dksX5_reverse_2 18 rfl rfl)
theorem dX5_reverse_69 : decode cX5_reverse 69 = .ok (.iconst 3, 1) := dk_6 (dk_at dksX5_reverse_2 21 rfl rfl)
theorem dX5_reverse_70 : decode cX5_reverse 70 = .ok (.aload_n 0, 1) := dk_42 (dk_at dksX5_reverse_2 22 rfl rfl)
theorem dX5_reverse_71 : decode cX5_reverse 71 = .ok (.getfield 7, 3) := dk_180 0 7 (dk_at dksX5_reverse_3 0 rfl rfl)
theorem dX5_reverse_74 : decode cX5_reverse 74 = .ok (.iconst 5, 1) := dk_8 (dk_at dksX5_reverse_3 3 rfl rfl)
theorem dX5_reverse_75 : decode cX5_reverse 75 = .ok (.iaload, 1) := dk_46 (dk_at dksX5_reverse_3 4 rfl rfl)
theorem dX5_reverse_76 : decode cX5_reverse 76 = .ok (.imul, 1) := dk_104 (dk_at dksX5_reverse_3 5 rfl rfl)
theorem dX5_reverse_77 : decode cX5_reverse 77 = .ok (.iadd, 1) := dk_96 (dk_at dksX5_reverse_3 6 rfl rfl)
theorem dX5_reverse_78 : decode cX5_reverse 78 = .ok (.istore_n 3, 1) := dk_62 (dk_at dksX5_reverse_3 7 rfl rfl)
theorem dX5_reverse_79 : decode cX5_reverse 79 = .ok (.aload_n 0, 1) := dk_42 (dk_at dksX5_reverse_3 8 rfl rfl)
theorem dX5_reverse_80 : decode cX5_reverse 80 = .ok (.getfield 7, 3) := dk_180 0 7 (dk_at dksX5_reverse_3 9 rfl rfl)
theorem dX5_reverse_83 : decode cX5_reverse 83 = .ok (.iload_n 3, 1) := dk_29 (dk_at dksX5_reverse_3 12 rfl rfl)
theorem dX5_reverse_84 : decode cX5_reverse 84 = .ok (.iaload, 1) := dk_46 (dk_at dksX5_reverse_3 13 rfl rfl)
theorem dX5_reverse_85 : decode cX5_reverse 85 = .ok (.istore 4, 2) := dk_54 4 (dk_at dksX5_reverse_3 14 rfl rfl)
theorem dX5_reverse_87 : decode cX5_reverse 87 = .ok (.aload_n 0, 1) := dk_42 (dk_at dksX5_reverse_3 16 rfl rfl)
theorem dX5_reverse_88 : decode cX5_reverse 88 = .ok (.iload 4, 2) := dk_21 4 (dk_at dksX5_reverse_3 17 rfl rfl)
theorem dX5_reverse_90 : decode cX5_reverse 90 = .ok (.iconst 1, 1) := dk_4 (dk_at dksX5_reverse_3 19 rfl rfl)
theorem dX5_reverse_91 : decode cX5_reverse 91 = .ok (.if_icmp .ne 7, 3) := dk_160 0 7 (dk_at dksX5_reverse_3 20 rfl rfl)
theorem dX5_reverse_94 : decode cX5_reverse 94 = .ok (.iconst 2, 1) := dk_5 (dk_at dksX5_reverse_3 23 rfl rfl)
theorem dX5_reverse_95 : decode cX5_reverse 95 = .ok (.goto 15, 3) := dk_167 0 15 (dk_at dksX5_reverse_4 0 rfl rfl)
theorem dX5_reverse_98 : decode cX5_reverse 98 = .ok (.iload 4, 2) := dk_21 4 (dk_at dksX5_reverse_4 3 rfl rfl)
theorem dX5_reverse_100 : decode cX5_reverse 100 = .ok (.iconst 2, 1) := dk_5 (dk_at dksX5_reverse_4 5 rfl rfl)
theorem dX5_reverse_101 : decode cX5_reverse 101 = .ok (.if_icmp .ne 7, 3) := dk_160 0 7 (dk_at dksX5_reverse_4 6 rfl rfl)
theorem dX5_reverse_104 : decode cX5_reverse 104 = .ok (.iconst 1, 1) := dk_4 (dk_at dksX5_reverse_4 9 rfl rfl)
theorem dX5_reverse_105 : decode cX5_reverse 105 = .ok (.goto 5, 3) := dk_167 0 5 (dk_at dksX5_reverse_4 10 rfl rfl)
theorem dX5_reverse_108 : decode cX5_reverse 108 = .ok (.iload 4, 2) := dk_21 4 (dk_at dksX5_reverse_4 13 rfl rfl)
theorem dX5_reverse_110 : decode cX5_reverse 110 = .ok (.aload_n 0, 1) := dk_42 (dk_at dksX5_reverse_4 15 rfl rfl)
theorem dX5_reverse_111 : decode cX5_reverse 111 = .ok (.getfield 7, 3) := dk_180 0 7 (dk_at dksX5_reverse_4 16 rfl rfl)
theorem dX5_reverse_114 : decode cX5_reverse 114 = .ok (.iload_n 3, 1) := dk_29 (dk_at dksX5_reverse_4 19 rfl rfl)
theorem dX5_reverse_115 : decode cX5_reverse 115 = .ok (.iconst 1, 1) := dk_4 (dk_at dksX5_reverse_4 20 rfl rfl)
theorem dX5_reverse_116 : decode cX5_reverse 116 = .ok (.iadd, 1) := dk_96 (dk_at dksX5_reverse_4 21 rfl rfl)
theorem dX5_reverse_117 : decode cX5_reverse 117 = .ok (.iaload, 1) := dk_46 (dk_at dksX5_reverse_4 22 rfl rfl)
theorem dX5_reverse_118 : decode cX5_reverse 118 = .ok (.aload_n 0, 1) := dk_42 (dk_at dksX5_reverse_4 23 rfl rfl)
theorem dX5_reverse_119 : decode cX5_reverse 119 = .ok (.getfield 7, 3) := dk_180 0 7 (dk_at dksX5_reverse_5 0 rfl rfl)
theorem dX5_reverse_122 : decode cX5_reverse 122 = .ok (.iload_n 3, 1) := dk_29 (dk_at dksX5_reverse_5 3 rfl rfl)
theorem dX5_reverse_123 : decode cX5_reverse 123 = .ok (.iconst 2, 1) := dk_5 (dk_at dksX5_reverse_5 4 rfl rfl)
theorem dX5_reverse_124 : decode cX5_reverse 124 = .ok (.iadd, 1) := dk_96 (dk_at dksX5_reverse_5 5 rfl rfl)
theorem dX5_reverse_125 : decode cX5_reverse 125 = .ok (.iaload, 1) := dk_46 (dk_at dksX5_reverse_5 6 rfl rfl)
theorem dX5_reverse_126 : decode cX5_reverse 126 = .ok (.invokevirtual 154, 3) := dk_182 0 154 (dk_at dksX5_reverse_5 7 rfl rfl)
theorem dX5_reverse_129 : decode cX5_reverse 129 = .ok (.iinc 2 1, 3) := dk_132 2 1 (dk_at dksX5_reverse_5 10 rfl rfl)
theorem dX5_reverse_132 : decode cX5_reverse 132 = .ok (.goto (-85), 3) := dk_167 255 171 (dk_at dksX5_reverse_5 13 rfl rfl)
theorem dX5_reverse_135 : decode cX5_reverse 135 = .ok (.aload_n 0, 1) := dk_42 (dk_at dksX5_reverse_5 16 rfl rfl)
theorem dX5_reverse_136 : decode cX5_reverse 136 = .ok (.invokevirtual 160, 3) := dk_182 0 160 (dk_at dksX5_reverse_5 17 rfl rfl)
theorem dX5_reverse_139 : decode cX5_reverse 139 = .ok (.aload_n 0, 1) := dk_42 (dk_at dksX5_reverse_5 20 rfl rfl)
theorem dX5_reverse_140 : decode cX5_reverse 140 = .ok (.getfield 7, 3) := dk_180 0 7 (dk_at dksX5_reverse_5 21 rfl rfl)
theorem dX5_reverse_143 : decode cX5_reverse 143 = .ok (.iconst 5, 1) := dk_8 (dk_at dksX5_reverse_6 0 rfl rfl)
theorem dX5_reverse_144 : decode cX5_reverse 144 = .ok (.iaload, 1) := dk_46 (dk_at dksX5_reverse_6 1 rfl rfl)
theorem dX5_reverse_145 : decode cX5_reverse 145 = .ok (.ireturn, 1) := dk_172 (dk_at dksX5_reverse_6 2 rfl rfl)
abbrev cX5_measure : ByteArray := prog_16_method_41_code
def yX5_measure : MethodName := ⟨RX5, "measure", "(IIZI)I"⟩
def dkwX5_measure_4 : List UInt8 := [182, 0, 160, 21, 5, 172]
abbrev dktX5_measure_4 : List UInt8 := dkwX5_measure_4 ++ []
def dkwX5_measure_3 : List UInt8 := [182, 0, 151, 42, 27, 28, 29, 153, 0, 7, 4, 167, 0, 4, 3, 21, 4, 182, 0, 210, 54, 5, 42]
abbrev dktX5_measure_3 : List UInt8 := dkwX5_measure_3 ++ dktX5_measure_4
def dkwX5_measure_2 : List UInt8 := [153, 0, 7, 4, 167, 0, 4, 3, 21, 4, 182, 0, 207, 5, 182, 0, 147, 154, 0, 5, 3, 172, 42]
abbrev dktX5_measure_2 : List UInt8 := dkwX5_measure_2 ++ dktX5_measure_3
def dkwX5_measure_1 : List UInt8 := [184, 0, 135, 153, 0, 7, 4, 167, 0, 4, 3, 182, 0, 87, 153, 0, 28, 42, 42, 27, 28, 29]
abbrev dktX5_measure_1 : List UInt8 := dkwX5_measure_1 ++ dktX5_measure_2
def dkwX5_measure_0 : List UInt8 := [42, 42, 27, 28, 182, 0, 202, 153, 0, 26, 27, 28, 128, 153, 0, 20, 21, 4, 133, 20, 0, 205, 10]
abbrev dktX5_measure_0 : List UInt8 := dkwX5_measure_0 ++ dktX5_measure_1
theorem dksX5_measure_0 : cX5_measure.data.toList.drop 0 = dktX5_measure_0 := by decide +kernel
theorem dksX5_measure_1 : cX5_measure.data.toList.drop 23 = dktX5_measure_1 := dk_seg dksX5_measure_0 23 rfl rfl
theorem dksX5_measure_2 : cX5_measure.data.toList.drop 45 = dktX5_measure_2 := dk_seg dksX5_measure_1 22 rfl rfl
theorem dksX5_measure_3 : cX5_measure.data.toList.drop 68 = dktX5_measure_3 := dk_seg dksX5_measure_2 23 rfl rfl
theorem dksX5_measure_4 : cX5_measure.data.toList.drop 91 = dktX5_measure_4 := dk_seg dksX5_measure_3 23 rfl rfl
theorem dX5_measure_0 : decode cX5_measure 0 = .ok (.aload_n 0, 1) := dk_42 (dk_at dksX5_measure_0 0 rfl rfl)
theorem dX5_measure_1 : decode cX5_measure 1 = .ok (.aload_n 0, 1) := dk_42 (dk_at dksX5_measure_0 1 rfl rfl)
theorem dX5_measure_2 : decode cX5_measure 2 = .ok (.iload_n 1, 1) := dk_27 (dk_at dksX5_measure_0 2 rfl rfl)
theorem dX5_measure_3 : decode cX5_measure 3 = .ok (.iload_n 2, 1) := dk_28 (dk_at dksX5_measure_0 3 rfl rfl)
theorem dX5_measure_4 : decode cX5_measure 4 = .ok (.invokevirtual 202, 3) := dk_182 0 202 (dk_at dksX5_measure_0 4 rfl rfl)
theorem dX5_measure_7 : decode cX5_measure 7 = .ok (.ifCond .eq 26, 3) := dk_153 0 26 (dk_at dksX5_measure_0 7 rfl rfl)
theorem dX5_measure_10 : decode cX5_measure 10 = .ok (.iload_n 1, 1) := dk_27 (dk_at dksX5_measure_0 10 rfl rfl)
theorem dX5_measure_11 : decode cX5_measure 11 = .ok (.iload_n 2, 1) := dk_28 (dk_at dksX5_measure_0 11 rfl rfl)
theorem dX5_measure_12 : decode cX5_measure 12 = .ok (.ior, 1) := dk_128 (dk_at dksX5_measure_0 12 rfl rfl)
theorem dX5_measure_13 : decode cX5_measure 13 = .ok (.ifCond .eq 20, 3) := dk_153 0 20 (dk_at dksX5_measure_0 13 rfl rfl)
theorem dX5_measure_16 : decode cX5_measure 16 = .ok (.iload 4, 2) := dk_21 4 (dk_at dksX5_measure_0 16 rfl rfl)
theorem dX5_measure_18 : decode cX5_measure 18 = .ok (.i2l, 1) := dk_133 (dk_at dksX5_measure_0 18 rfl rfl)
theorem dX5_measure_19 : decode cX5_measure 19 = .ok (.ldc2_w 205, 3) := dk_20 0 205 (dk_at dksX5_measure_0 19 rfl rfl)
theorem dX5_measure_22 : decode cX5_measure 22 = .ok (.lconst 1, 1) := dk_10 (dk_at dksX5_measure_0 22 rfl rfl)
theorem dX5_measure_23 : decode cX5_measure 23 = .ok (.invokestatic 135, 3) := dk_184 0 135 (dk_at dksX5_measure_1 0 rfl rfl)
theorem dX5_measure_26 : decode cX5_measure 26 = .ok (.ifCond .eq 7, 3) := dk_153 0 7 (dk_at dksX5_measure_1 3 rfl rfl)
theorem dX5_measure_29 : decode cX5_measure 29 = .ok (.iconst 1, 1) := dk_4 (dk_at dksX5_measure_1 6 rfl rfl)
theorem dX5_measure_30 : decode cX5_measure 30 = .ok (.goto 4, 3) := dk_167 0 4 (dk_at dksX5_measure_1 7 rfl rfl)
theorem dX5_measure_33 : decode cX5_measure 33 = .ok (.iconst 0, 1) := dk_3 (dk_at dksX5_measure_1 10 rfl rfl)
theorem dX5_measure_34 : decode cX5_measure 34 = .ok (.invokevirtual 87, 3) := dk_182 0 87 (dk_at dksX5_measure_1 11 rfl rfl)
theorem dX5_measure_37 : decode cX5_measure 37 = .ok (.ifCond .eq 28, 3) := dk_153 0 28 (dk_at dksX5_measure_1 14 rfl rfl)
theorem dX5_measure_40 : decode cX5_measure 40 = .ok (.aload_n 0, 1) := dk_42 (dk_at dksX5_measure_1 17 rfl rfl)
theorem dX5_measure_41 : decode cX5_measure 41 = .ok (.aload_n 0, 1) := dk_42 (dk_at dksX5_measure_1 18 rfl rfl)
theorem dX5_measure_42 : decode cX5_measure 42 = .ok (.iload_n 1, 1) := dk_27 (dk_at dksX5_measure_1 19 rfl rfl)
theorem dX5_measure_43 : decode cX5_measure 43 = .ok (.iload_n 2, 1) := dk_28 (dk_at dksX5_measure_1 20 rfl rfl)
theorem dX5_measure_44 : decode cX5_measure 44 = .ok (.iload_n 3, 1) := dk_29 (dk_at dksX5_measure_1 21 rfl rfl)
theorem dX5_measure_45 : decode cX5_measure 45 = .ok (.ifCond .eq 7, 3) := dk_153 0 7 (dk_at dksX5_measure_2 0 rfl rfl)
theorem dX5_measure_48 : decode cX5_measure 48 = .ok (.iconst 1, 1) := dk_4 (dk_at dksX5_measure_2 3 rfl rfl)
theorem dX5_measure_49 : decode cX5_measure 49 = .ok (.goto 4, 3) := dk_167 0 4 (dk_at dksX5_measure_2 4 rfl rfl)
theorem dX5_measure_52 : decode cX5_measure 52 = .ok (.iconst 0, 1) := dk_3 (dk_at dksX5_measure_2 7 rfl rfl)
theorem dX5_measure_53 : decode cX5_measure 53 = .ok (.iload 4, 2) := dk_21 4 (dk_at dksX5_measure_2 8 rfl rfl)
theorem dX5_measure_55 : decode cX5_measure 55 = .ok (.invokevirtual 207, 3) := dk_182 0 207 (dk_at dksX5_measure_2 10 rfl rfl)
theorem dX5_measure_58 : decode cX5_measure 58 = .ok (.iconst 2, 1) := dk_5 (dk_at dksX5_measure_2 13 rfl rfl)
theorem dX5_measure_59 : decode cX5_measure 59 = .ok (.invokevirtual 147, 3) := dk_182 0 147 (dk_at dksX5_measure_2 14 rfl rfl)
theorem dX5_measure_62 : decode cX5_measure 62 = .ok (.ifCond .ne 5, 3) := dk_154 0 5 (dk_at dksX5_measure_2 17 rfl rfl)
theorem dX5_measure_65 : decode cX5_measure 65 = .ok (.iconst 0, 1) := dk_3 (dk_at dksX5_measure_2 20 rfl rfl)
theorem dX5_measure_66 : decode cX5_measure 66 = .ok (.ireturn, 1) := dk_172 (dk_at dksX5_measure_2 21 rfl rfl)
theorem dX5_measure_67 : decode cX5_measure 67 = .ok (.aload_n 0, 1) := dk_42 (dk_at dksX5_measure_2 22 rfl rfl)
theorem dX5_measure_68 : decode cX5_measure 68 = .ok (.invokevirtual 151, 3) := dk_182 0 151 (dk_at dksX5_measure_3 0 rfl rfl)
theorem dX5_measure_71 : decode cX5_measure 71 = .ok (.aload_n 0, 1) := dk_42 (dk_at dksX5_measure_3 3 rfl rfl)
theorem dX5_measure_72 : decode cX5_measure 72 = .ok (.iload_n 1, 1) := dk_27 (dk_at dksX5_measure_3 4 rfl rfl)
theorem dX5_measure_73 : decode cX5_measure 73 = .ok (.iload_n 2, 1) := dk_28 (dk_at dksX5_measure_3 5 rfl rfl)
theorem dX5_measure_74 : decode cX5_measure 74 = .ok (.iload_n 3, 1) := dk_29 (dk_at dksX5_measure_3 6 rfl rfl)
theorem dX5_measure_75 : decode cX5_measure 75 = .ok (.ifCond .eq 7, 3) := dk_153 0 7 (dk_at dksX5_measure_3 7 rfl rfl)
theorem dX5_measure_78 : decode cX5_measure 78 = .ok (.iconst 1, 1) := dk_4 (dk_at dksX5_measure_3 10 rfl rfl)
theorem dX5_measure_79 : decode cX5_measure 79 = .ok (.goto 4, 3) := dk_167 0 4 (dk_at dksX5_measure_3 11 rfl rfl)
theorem dX5_measure_82 : decode cX5_measure 82 = .ok (.iconst 0, 1) := dk_3 (dk_at dksX5_measure_3 14 rfl rfl)
theorem dX5_measure_83 : decode cX5_measure 83 = .ok (.iload 4, 2) := dk_21 4 (dk_at dksX5_measure_3 15 rfl rfl)
theorem dX5_measure_85 : decode cX5_measure 85 = .ok (.invokevirtual 210, 3) := dk_182 0 210 (dk_at dksX5_measure_3 17 rfl rfl)
theorem dX5_measure_88 : decode cX5_measure 88 = .ok (.istore 5, 2) := dk_54 5 (dk_at dksX5_measure_3 20 rfl rfl)
theorem dX5_measure_90 : decode cX5_measure 90 = .ok (.aload_n 0, 1) := dk_42 (dk_at dksX5_measure_3 22 rfl rfl)
theorem dX5_measure_91 : decode cX5_measure 91 = .ok (.invokevirtual 160, 3) := dk_182 0 160 (dk_at dksX5_measure_4 0 rfl rfl)
theorem dX5_measure_94 : decode cX5_measure 94 = .ok (.iload 5, 2) := dk_21 5 (dk_at dksX5_measure_4 3 rfl rfl)
theorem dX5_measure_96 : decode cX5_measure 96 = .ok (.ireturn, 1) := dk_172 (dk_at dksX5_measure_4 5 rfl rfl)
abbrev cX5_areMasks : ByteArray := prog_16_method_34_code
def yX5_areMasks : MethodName := ⟨RX5, "areMasks", "(II)Z"⟩
def dkwX5_areMasks_1 : List UInt8 := [100, 133, 184, 0, 135, 153, 0, 7, 4, 167, 0, 4, 3, 172]
abbrev dktX5_areMasks_1 : List UInt8 := dkwX5_areMasks_1 ++ []
def dkwX5_areMasks_0 : List UInt8 := [27, 133, 9, 42, 182, 0, 169, 4, 100, 133, 184, 0, 135, 153, 0, 23, 28, 133, 9, 42, 182, 0, 169, 4]
abbrev dktX5_areMasks_0 : List UInt8 := dkwX5_areMasks_0 ++ dktX5_areMasks_1
theorem dksX5_areMasks_0 : cX5_areMasks.data.toList.drop 0 = dktX5_areMasks_0 := by decide +kernel
theorem dksX5_areMasks_1 : cX5_areMasks.data.toList.drop 24 = dktX5_areMasks_1 := dk_seg dksX5_areMasks_0 24 rfl rfl
theorem dX5_areMasks_0 : decode cX5_areMasks 0 = .ok (.iload_n 1, 1) := dk_27 (dk_at dksX5_areMasks_0 0 rfl rfl)
theorem dX5_areMasks_1 : decode cX5_areMasks 1 = .ok (.i2l, 1) := dk_133 (dk_at dksX5_areMasks_0 1 rfl rfl)
theorem dX5_areMasks_2 : decode cX5_areMasks 2 = .ok (.lconst 0, 1) := dk_9 (dk_at dksX5_areMasks_0 2 rfl rfl)
theorem dX5_areMasks_3 : decode cX5_areMasks 3 = .ok (.aload_n 0, 1) := dk_42 (dk_at dksX5_areMasks_0 3 rfl rfl)
theorem dX5_areMasks_4 : decode cX5_areMasks 4 = .ok (.invokevirtual 169, 3) := dk_182 0 169 (dk_at dksX5_areMasks_0 4 rfl rfl)
theorem dX5_areMasks_7 : decode cX5_areMasks 7 = .ok (.iconst 1, 1) := dk_4 (dk_at dksX5_areMasks_0 7 rfl rfl)
theorem dX5_areMasks_8 : decode cX5_areMasks 8 = .ok (.isub, 1) := dk_100 (dk_at dksX5_areMasks_0 8 rfl rfl)
theorem dX5_areMasks_9 : decode cX5_areMasks 9 = .ok (.i2l, 1) := dk_133 (dk_at dksX5_areMasks_0 9 rfl rfl)
theorem dX5_areMasks_10 : decode cX5_areMasks 10 = .ok (.invokestatic 135, 3) := dk_184 0 135 (dk_at dksX5_areMasks_0 10 rfl rfl)
theorem dX5_areMasks_13 : decode cX5_areMasks 13 = .ok (.ifCond .eq 23, 3) := dk_153 0 23 (dk_at dksX5_areMasks_0 13 rfl rfl)
theorem dX5_areMasks_16 : decode cX5_areMasks 16 = .ok (.iload_n 2, 1) := dk_28 (dk_at dksX5_areMasks_0 16 rfl rfl)
theorem dX5_areMasks_17 : decode cX5_areMasks 17 = .ok (.i2l, 1) := dk_133 (dk_at dksX5_areMasks_0 17 rfl rfl)
theorem dX5_areMasks_18 : decode cX5_areMasks 18 = .ok (.lconst 0, 1) := dk_9 (dk_at dksX5_areMasks_0 18 rfl rfl)
theorem dX5_areMasks_19 : decode cX5_areMasks 19 = .ok (.aload_n 0, 1) := dk_42 (dk_at dksX5_areMasks_0 19 rfl rfl)
theorem dX5_areMasks_20 : decode cX5_areMasks 20 = .ok (.invokevirtual 169, 3) := dk_182 0 169 (dk_at dksX5_areMasks_0 20 rfl rfl)
theorem dX5_areMasks_23 : decode cX5_areMasks 23 = .ok (.iconst 1, 1) := dk_4 (dk_at dksX5_areMasks_0 23 rfl rfl)
theorem dX5_areMasks_24 : decode cX5_areMasks 24 = .ok (.isub, 1) := dk_100 (dk_at dksX5_areMasks_1 0 rfl rfl)
theorem dX5_areMasks_25 : decode cX5_areMasks 25 = .ok (.i2l, 1) := dk_133 (dk_at dksX5_areMasks_1 1 rfl rfl)
theorem dX5_areMasks_26 : decode cX5_areMasks 26 = .ok (.invokestatic 135, 3) := dk_184 0 135 (dk_at dksX5_areMasks_1 2 rfl rfl)
theorem dX5_areMasks_29 : decode cX5_areMasks 29 = .ok (.ifCond .eq 7, 3) := dk_153 0 7 (dk_at dksX5_areMasks_1 5 rfl rfl)
theorem dX5_areMasks_32 : decode cX5_areMasks 32 = .ok (.iconst 1, 1) := dk_4 (dk_at dksX5_areMasks_1 8 rfl rfl)
theorem dX5_areMasks_33 : decode cX5_areMasks 33 = .ok (.goto 4, 3) := dk_167 0 4 (dk_at dksX5_areMasks_1 9 rfl rfl)
theorem dX5_areMasks_36 : decode cX5_areMasks 36 = .ok (.iconst 0, 1) := dk_3 (dk_at dksX5_areMasks_1 12 rfl rfl)
theorem dX5_areMasks_37 : decode cX5_areMasks 37 = .ok (.ireturn, 1) := dk_172 (dk_at dksX5_areMasks_1 13 rfl rfl)
abbrev cX5_sets : ByteArray := prog_16_method_32_code
def yX5_sets : MethodName := ⟨RX5, "sets", "()I"⟩
def dkwX5_sets_0 : List UInt8 := [4, 42, 180, 0, 7, 3, 46, 120, 172]
abbrev dktX5_sets_0 : List UInt8 := dkwX5_sets_0 ++ []
theorem dksX5_sets_0 : cX5_sets.data.toList.drop 0 = dktX5_sets_0 := by decide +kernel
theorem dX5_sets_0 : decode cX5_sets 0 = .ok (.iconst 1, 1) := dk_4 (dk_at dksX5_sets_0 0 rfl rfl)
theorem dX5_sets_1 : decode cX5_sets 1 = .ok (.aload_n 0, 1) := dk_42 (dk_at dksX5_sets_0 1 rfl rfl)
theorem dX5_sets_2 : decode cX5_sets 2 = .ok (.getfield 7, 3) := dk_180 0 7 (dk_at dksX5_sets_0 2 rfl rfl)
theorem dX5_sets_5 : decode cX5_sets 5 = .ok (.iconst 0, 1) := dk_3 (dk_at dksX5_sets_0 5 rfl rfl)
theorem dX5_sets_6 : decode cX5_sets 6 = .ok (.iaload, 1) := dk_46 (dk_at dksX5_sets_0 6 rfl rfl)
theorem dX5_sets_7 : decode cX5_sets 7 = .ok (.ishl, 1) := dk_120 (dk_at dksX5_sets_0 7 rfl rfl)
theorem dX5_sets_8 : decode cX5_sets 8 = .ok (.ireturn, 1) := dk_172 (dk_at dksX5_sets_0 8 rfl rfl)
abbrev cX5_canMeasure : ByteArray := prog_16_method_39_code
def yX5_canMeasure : MethodName := ⟨RX5, "canMeasure", "(IIII)Z"⟩
def dkwX5_canMeasure_1 : List UInt8 := [153, 0, 15, 21, 4, 153, 0, 10, 21, 4, 21, 5, 160, 0, 7, 4, 167, 0, 4, 3, 172]
abbrev dktX5_canMeasure_1 : List UInt8 := dkwX5_canMeasure_1 ++ []
def dkwX5_canMeasure_0 : List UInt8 := [42, 180, 0, 7, 7, 46, 16, 100, 160, 0, 5, 3, 172, 42, 27, 28, 29, 182, 0, 189, 54, 5, 21, 5]
abbrev dktX5_canMeasure_0 : List UInt8 := dkwX5_canMeasure_0 ++ dktX5_canMeasure_1
theorem dksX5_canMeasure_0 : cX5_canMeasure.data.toList.drop 0 = dktX5_canMeasure_0 := by decide +kernel
theorem dksX5_canMeasure_1 : cX5_canMeasure.data.toList.drop 24 = dktX5_canMeasure_1 := dk_seg dksX5_canMeasure_0 24 rfl rfl
theorem dX5_canMeasure_0 : decode cX5_canMeasure 0 = .ok (.aload_n 0, 1) := dk_42 (dk_at dksX5_canMeasure_0 0 rfl rfl)
theorem dX5_canMeasure_1 : decode cX5_canMeasure 1 = .ok (.getfield 7, 3) := dk_180 0 7 (dk_at dksX5_canMeasure_0 1 rfl rfl)
theorem dX5_canMeasure_4 : decode cX5_canMeasure 4 = .ok (.iconst 4, 1) := dk_7 (dk_at dksX5_canMeasure_0 4 rfl rfl)
theorem dX5_canMeasure_5 : decode cX5_canMeasure 5 = .ok (.iaload, 1) := dk_46 (dk_at dksX5_canMeasure_0 5 rfl rfl)
theorem dX5_canMeasure_6 : decode cX5_canMeasure 6 = .ok (.bipush 100, 2) := dk_16 100 (dk_at dksX5_canMeasure_0 6 rfl rfl)
theorem dX5_canMeasure_8 : decode cX5_canMeasure 8 = .ok (.if_icmp .ne 5, 3) := dk_160 0 5 (dk_at dksX5_canMeasure_0 8 rfl rfl)
theorem dX5_canMeasure_11 : decode cX5_canMeasure 11 = .ok (.iconst 0, 1) := dk_3 (dk_at dksX5_canMeasure_0 11 rfl rfl)
theorem dX5_canMeasure_12 : decode cX5_canMeasure 12 = .ok (.ireturn, 1) := dk_172 (dk_at dksX5_canMeasure_0 12 rfl rfl)
theorem dX5_canMeasure_13 : decode cX5_canMeasure 13 = .ok (.aload_n 0, 1) := dk_42 (dk_at dksX5_canMeasure_0 13 rfl rfl)
theorem dX5_canMeasure_14 : decode cX5_canMeasure 14 = .ok (.iload_n 1, 1) := dk_27 (dk_at dksX5_canMeasure_0 14 rfl rfl)
theorem dX5_canMeasure_15 : decode cX5_canMeasure 15 = .ok (.iload_n 2, 1) := dk_28 (dk_at dksX5_canMeasure_0 15 rfl rfl)
theorem dX5_canMeasure_16 : decode cX5_canMeasure 16 = .ok (.iload_n 3, 1) := dk_29 (dk_at dksX5_canMeasure_0 16 rfl rfl)
theorem dX5_canMeasure_17 : decode cX5_canMeasure 17 = .ok (.invokevirtual 189, 3) := dk_182 0 189 (dk_at dksX5_canMeasure_0 17 rfl rfl)
theorem dX5_canMeasure_20 : decode cX5_canMeasure 20 = .ok (.istore 5, 2) := dk_54 5 (dk_at dksX5_canMeasure_0 20 rfl rfl)
theorem dX5_canMeasure_22 : decode cX5_canMeasure 22 = .ok (.iload 5, 2) := dk_21 5 (dk_at dksX5_canMeasure_0 22 rfl rfl)
theorem dX5_canMeasure_24 : decode cX5_canMeasure 24 = .ok (.ifCond .eq 15, 3) := dk_153 0 15 (dk_at dksX5_canMeasure_1 0 rfl rfl)
theorem dX5_canMeasure_27 : decode cX5_canMeasure 27 = .ok (.iload 4, 2) := dk_21 4 (dk_at dksX5_canMeasure_1 3 rfl rfl)
theorem dX5_canMeasure_29 : decode cX5_canMeasure 29 = .ok (.ifCond .eq 10, 3) := dk_153 0 10 (dk_at dksX5_canMeasure_1 5 rfl rfl)
theorem dX5_canMeasure_32 : decode cX5_canMeasure 32 = .ok (.iload 4, 2) := dk_21 4 (dk_at dksX5_canMeasure_1 8 rfl rfl)
theorem dX5_canMeasure_34 : decode cX5_canMeasure 34 = .ok (.iload 5, 2) := dk_21 5 (dk_at dksX5_canMeasure_1 10 rfl rfl)
theorem dX5_canMeasure_36 : decode cX5_canMeasure 36 = .ok (.if_icmp .ne 7, 3) := dk_160 0 7 (dk_at dksX5_canMeasure_1 12 rfl rfl)
theorem dX5_canMeasure_39 : decode cX5_canMeasure 39 = .ok (.iconst 1, 1) := dk_4 (dk_at dksX5_canMeasure_1 15 rfl rfl)
theorem dX5_canMeasure_40 : decode cX5_canMeasure 40 = .ok (.goto 4, 3) := dk_167 0 4 (dk_at dksX5_canMeasure_1 16 rfl rfl)
theorem dX5_canMeasure_43 : decode cX5_canMeasure 43 = .ok (.iconst 0, 1) := dk_3 (dk_at dksX5_canMeasure_1 19 rfl rfl)
theorem dX5_canMeasure_44 : decode cX5_canMeasure 44 = .ok (.ireturn, 1) := dk_172 (dk_at dksX5_canMeasure_1 20 rfl rfl)
abbrev cX5_determined : ByteArray := prog_16_method_36_code
def yX5_determined : MethodName := ⟨RX5, "determined", "(III)I"⟩
def dkwX5_determined_1 : List UInt8 := [160, 0, 7, 3, 167, 0, 16, 42, 180, 0, 105, 29, 160, 0, 7, 4, 167, 0, 4, 2, 172]
abbrev dktX5_determined_1 : List UInt8 := dkwX5_determined_1 ++ []
def dkwX5_determined_0 : List UInt8 := [42, 27, 28, 182, 0, 179, 153, 0, 5, 3, 172, 42, 27, 28, 182, 0, 183, 54, 4, 21, 4, 2]
abbrev dktX5_determined_0 : List UInt8 := dkwX5_determined_0 ++ dktX5_determined_1
theorem dksX5_determined_0 : cX5_determined.data.toList.drop 0 = dktX5_determined_0 := by decide +kernel
theorem dksX5_determined_1 : cX5_determined.data.toList.drop 22 = dktX5_determined_1 := dk_seg dksX5_determined_0 22 rfl rfl
theorem dX5_determined_0 : decode cX5_determined 0 = .ok (.aload_n 0, 1) := dk_42 (dk_at dksX5_determined_0 0 rfl rfl)
theorem dX5_determined_1 : decode cX5_determined 1 = .ok (.iload_n 1, 1) := dk_27 (dk_at dksX5_determined_0 1 rfl rfl)
theorem dX5_determined_2 : decode cX5_determined 2 = .ok (.iload_n 2, 1) := dk_28 (dk_at dksX5_determined_0 2 rfl rfl)
theorem dX5_determined_3 : decode cX5_determined 3 = .ok (.invokevirtual 179, 3) := dk_182 0 179 (dk_at dksX5_determined_0 3 rfl rfl)
theorem dX5_determined_6 : decode cX5_determined 6 = .ok (.ifCond .eq 5, 3) := dk_153 0 5 (dk_at dksX5_determined_0 6 rfl rfl)
theorem dX5_determined_9 : decode cX5_determined 9 = .ok (.iconst 0, 1) := dk_3 (dk_at dksX5_determined_0 9 rfl rfl)
theorem dX5_determined_10 : decode cX5_determined 10 = .ok (.ireturn, 1) := dk_172 (dk_at dksX5_determined_0 10 rfl rfl)
theorem dX5_determined_11 : decode cX5_determined 11 = .ok (.aload_n 0, 1) := dk_42 (dk_at dksX5_determined_0 11 rfl rfl)
theorem dX5_determined_12 : decode cX5_determined 12 = .ok (.iload_n 1, 1) := dk_27 (dk_at dksX5_determined_0 12 rfl rfl)
theorem dX5_determined_13 : decode cX5_determined 13 = .ok (.iload_n 2, 1) := dk_28 (dk_at dksX5_determined_0 13 rfl rfl)
theorem dX5_determined_14 : decode cX5_determined 14 = .ok (.invokevirtual 183, 3) := dk_182 0 183 (dk_at dksX5_determined_0 14 rfl rfl)
theorem dX5_determined_17 : decode cX5_determined 17 = .ok (.istore 4, 2) := dk_54 4 (dk_at dksX5_determined_0 17 rfl rfl)
theorem dX5_determined_19 : decode cX5_determined 19 = .ok (.iload 4, 2) := dk_21 4 (dk_at dksX5_determined_0 19 rfl rfl)
theorem dX5_determined_21 : decode cX5_determined 21 = .ok (.iconst (-1), 1) := dk_2 (dk_at dksX5_determined_0 21 rfl rfl)
theorem dX5_determined_22 : decode cX5_determined 22 = .ok (.if_icmp .ne 7, 3) := dk_160 0 7 (dk_at dksX5_determined_1 0 rfl rfl)
theorem dX5_determined_25 : decode cX5_determined 25 = .ok (.iconst 0, 1) := dk_3 (dk_at dksX5_determined_1 3 rfl rfl)
theorem dX5_determined_26 : decode cX5_determined 26 = .ok (.goto 16, 3) := dk_167 0 16 (dk_at dksX5_determined_1 4 rfl rfl)
theorem dX5_determined_29 : decode cX5_determined 29 = .ok (.aload_n 0, 1) := dk_42 (dk_at dksX5_determined_1 7 rfl rfl)
theorem dX5_determined_30 : decode cX5_determined 30 = .ok (.getfield 105, 3) := dk_180 0 105 (dk_at dksX5_determined_1 8 rfl rfl)
theorem dX5_determined_33 : decode cX5_determined 33 = .ok (.iload_n 3, 1) := dk_29 (dk_at dksX5_determined_1 11 rfl rfl)
theorem dX5_determined_34 : decode cX5_determined 34 = .ok (.if_icmp .ne 7, 3) := dk_160 0 7 (dk_at dksX5_determined_1 12 rfl rfl)
theorem dX5_determined_37 : decode cX5_determined 37 = .ok (.iconst 1, 1) := dk_4 (dk_at dksX5_determined_1 15 rfl rfl)
theorem dX5_determined_38 : decode cX5_determined 38 = .ok (.goto 4, 3) := dk_167 0 4 (dk_at dksX5_determined_1 16 rfl rfl)
theorem dX5_determined_41 : decode cX5_determined 41 = .ok (.iconst (-1), 1) := dk_2 (dk_at dksX5_determined_1 19 rfl rfl)
theorem dX5_determined_42 : decode cX5_determined 42 = .ok (.ireturn, 1) := dk_172 (dk_at dksX5_determined_1 20 rfl rfl)
abbrev cX5_againstOf : ByteArray := prog_16_method_35_code
def yX5_againstOf : MethodName := ⟨RX5, "againstOf", "(II)I"⟩
def dkwX5_againstOf_2 : List UInt8 := [120, 128, 62, 132, 4, 1, 167, 255, 207, 29, 172]
abbrev dktX5_againstOf_2 : List UInt8 := dkwX5_againstOf_2 ++ []
def dkwX5_againstOf_1 : List UInt8 := [96, 46, 42, 180, 0, 7, 16, 14, 21, 4, 96, 46, 27, 28, 184, 0, 175, 154, 0, 10, 29, 4, 21, 4]
abbrev dktX5_againstOf_1 : List UInt8 := dkwX5_againstOf_1 ++ dktX5_againstOf_2
def dkwX5_againstOf_0 : List UInt8 := [3, 62, 3, 54, 4, 21, 4, 42, 180, 0, 7, 3, 46, 162, 0, 44, 42, 180, 0, 7, 16, 6, 21, 4]
abbrev dktX5_againstOf_0 : List UInt8 := dkwX5_againstOf_0 ++ dktX5_againstOf_1
theorem dksX5_againstOf_0 : cX5_againstOf.data.toList.drop 0 = dktX5_againstOf_0 := by decide +kernel
theorem dksX5_againstOf_1 : cX5_againstOf.data.toList.drop 24 = dktX5_againstOf_1 := dk_seg dksX5_againstOf_0 24 rfl rfl
theorem dksX5_againstOf_2 : cX5_againstOf.data.toList.drop 48 = dktX5_againstOf_2 := dk_seg dksX5_againstOf_1 24 rfl rfl
theorem dX5_againstOf_0 : decode cX5_againstOf 0 = .ok (.iconst 0, 1) := dk_3 (dk_at dksX5_againstOf_0 0 rfl rfl)
theorem dX5_againstOf_1 : decode cX5_againstOf 1 = .ok (.istore_n 3, 1) := dk_62 (dk_at dksX5_againstOf_0 1 rfl rfl)
theorem dX5_againstOf_2 : decode cX5_againstOf 2 = .ok (.iconst 0, 1) := dk_3 (dk_at dksX5_againstOf_0 2 rfl rfl)
theorem dX5_againstOf_3 : decode cX5_againstOf 3 = .ok (.istore 4, 2) := dk_54 4 (dk_at dksX5_againstOf_0 3 rfl rfl)
theorem dX5_againstOf_5 : decode cX5_againstOf 5 = .ok (.iload 4, 2) := dk_21 4 (dk_at dksX5_againstOf_0 5 rfl rfl)
theorem dX5_againstOf_7 : decode cX5_againstOf 7 = .ok (.aload_n 0, 1) := dk_42 (dk_at dksX5_againstOf_0 7 rfl rfl)
theorem dX5_againstOf_8 : decode cX5_againstOf 8 = .ok (.getfield 7, 3) := dk_180 0 7 (dk_at dksX5_againstOf_0 8 rfl rfl)
theorem dX5_againstOf_11 : decode cX5_againstOf 11 = .ok (.iconst 0, 1) := dk_3 (dk_at dksX5_againstOf_0 11 rfl rfl)
theorem dX5_againstOf_12 : decode cX5_againstOf 12 = .ok (.iaload, 1) := dk_46 (dk_at dksX5_againstOf_0 12 rfl rfl)
theorem dX5_againstOf_13 : decode cX5_againstOf 13 = .ok (.if_icmp .ge 44, 3) := dk_162 0 44 (dk_at dksX5_againstOf_0 13 rfl rfl)
theorem dX5_againstOf_16 : decode cX5_againstOf 16 = .ok (.aload_n 0, 1) := dk_42 (dk_at dksX5_againstOf_0 16 rfl rfl)
theorem dX5_againstOf_17 : decode cX5_againstOf 17 = .ok (.getfield 7, 3) := dk_180 0 7 (dk_at dksX5_againstOf_0 17 rfl rfl)
theorem dX5_againstOf_20 : decode cX5_againstOf 20 = .ok (.bipush 6, 2) := dk_16 6 (dk_at dksX5_againstOf_0 20 rfl rfl)
theorem dX5_againstOf_22 : decode cX5_againstOf 22 = .ok (.iload 4, 2) := dk_21 4 (dk_at dksX5_againstOf_0 22 rfl rfl)
theorem dX5_againstOf_24 : decode cX5_againstOf 24 = .ok (.iadd, 1) := dk_96 (dk_at dksX5_againstOf_1 0 rfl rfl)
theorem dX5_againstOf_25 : decode cX5_againstOf 25 = .ok (.iaload, 1) := dk_46 (dk_at dksX5_againstOf_1 1 rfl rfl)
theorem dX5_againstOf_26 : decode cX5_againstOf 26 = .ok (.aload_n 0, 1) := dk_42 (dk_at dksX5_againstOf_1 2 rfl rfl)
theorem dX5_againstOf_27 : decode cX5_againstOf 27 = .ok (.getfield 7, 3) := dk_180 0 7 (dk_at dksX5_againstOf_1 3 rfl rfl)
theorem dX5_againstOf_30 : decode cX5_againstOf 30 = .ok (.bipush 14, 2) := dk_16 14 (dk_at dksX5_againstOf_1 6 rfl rfl)
theorem dX5_againstOf_32 : decode cX5_againstOf 32 = .ok (.iload 4, 2) := dk_21 4 (dk_at dksX5_againstOf_1 8 rfl rfl)
theorem dX5_againstOf_34 : decode cX5_againstOf 34 = .ok (.iadd, 1) := dk_96 (dk_at dksX5_againstOf_1 10 rfl rfl)
theorem dX5_againstOf_35 : decode cX5_againstOf 35 = .ok (.iaload, 1) := dk_46 (dk_at dksX5_againstOf_1 11 rfl rfl)
theorem dX5_againstOf_36 : decode cX5_againstOf 36 = .ok (.iload_n 1, 1) := dk_27 (dk_at dksX5_againstOf_1 12 rfl rfl)
theorem dX5_againstOf_37 : decode cX5_againstOf 37 = .ok (.iload_n 2, 1) := dk_28 (dk_at dksX5_againstOf_1 13 rfl rfl)
theorem dX5_againstOf_38 : decode cX5_againstOf 38 = .ok (.invokestatic 175, 3) := dk_184 0 175 (dk_at dksX5_againstOf_1 14 rfl rfl)
theorem dX5_againstOf_41 : decode cX5_againstOf 41 = .ok (.ifCond .ne 10, 3) := dk_154 0 10 (dk_at dksX5_againstOf_1 17 rfl rfl)
theorem dX5_againstOf_44 : decode cX5_againstOf 44 = .ok (.iload_n 3, 1) := dk_29 (dk_at dksX5_againstOf_1 20 rfl rfl)
theorem dX5_againstOf_45 : decode cX5_againstOf 45 = .ok (.iconst 1, 1) := dk_4 (dk_at dksX5_againstOf_1 21 rfl rfl)
theorem dX5_againstOf_46 : decode cX5_againstOf 46 = .ok (.iload 4, 2) := dk_21 4 (dk_at dksX5_againstOf_1 22 rfl rfl)
theorem dX5_againstOf_48 : decode cX5_againstOf 48 = .ok (.ishl, 1) := dk_120 (dk_at dksX5_againstOf_2 0 rfl rfl)
theorem dX5_againstOf_49 : decode cX5_againstOf 49 = .ok (.ior, 1) := dk_128 (dk_at dksX5_againstOf_2 1 rfl rfl)
theorem dX5_againstOf_50 : decode cX5_againstOf 50 = .ok (.istore_n 3, 1) := dk_62 (dk_at dksX5_againstOf_2 2 rfl rfl)
theorem dX5_againstOf_51 : decode cX5_againstOf 51 = .ok (.iinc 4 1, 3) := dk_132 4 1 (dk_at dksX5_againstOf_2 3 rfl rfl)
theorem dX5_againstOf_54 : decode cX5_againstOf 54 = .ok (.goto (-49), 3) := dk_167 255 207 (dk_at dksX5_againstOf_2 6 rfl rfl)
theorem dX5_againstOf_57 : decode cX5_againstOf 57 = .ok (.iload_n 3, 1) := dk_29 (dk_at dksX5_againstOf_2 9 rfl rfl)
theorem dX5_againstOf_58 : decode cX5_againstOf 58 = .ok (.ireturn, 1) := dk_172 (dk_at dksX5_againstOf_2 10 rfl rfl)
abbrev cX5_doCommute : ByteArray := prog_16_method_16_code
def yX5_doCommute : MethodName := ⟨RX5, "doCommute", "(IIII)Z"⟩
def dkwX5_doCommute_3 : List UInt8 := [172]
abbrev dktX5_doCommute_3 : List UInt8 := dkwX5_doCommute_3 ++ []
def dkwX5_doCommute_2 : List UInt8 := [21, 4, 4, 96, 54, 4, 132, 5, 1, 167, 255, 205, 21, 4, 5, 112, 154, 0, 7, 4, 167, 0, 4, 3]
abbrev dktX5_doCommute_2 : List UInt8 := dkwX5_doCommute_2 ++ dktX5_doCommute_3
def dkwX5_doCommute_1 : List UInt8 := [21, 5, 184, 0, 95, 54, 7, 21, 6, 153, 0, 21, 21, 7, 153, 0, 16, 21, 6, 21, 7, 159, 0, 9]
abbrev dktX5_doCommute_1 : List UInt8 := dkwX5_doCommute_1 ++ dktX5_doCommute_2
def dkwX5_doCommute_0 : List UInt8 := [3, 54, 4, 3, 54, 5, 21, 5, 16, 8, 162, 0, 50, 26, 27, 21, 5, 184, 0, 95, 54, 6, 28, 29]
abbrev dktX5_doCommute_0 : List UInt8 := dkwX5_doCommute_0 ++ dktX5_doCommute_1
theorem dksX5_doCommute_0 : cX5_doCommute.data.toList.drop 0 = dktX5_doCommute_0 := by decide +kernel
theorem dksX5_doCommute_1 : cX5_doCommute.data.toList.drop 24 = dktX5_doCommute_1 := dk_seg dksX5_doCommute_0 24 rfl rfl
theorem dksX5_doCommute_2 : cX5_doCommute.data.toList.drop 48 = dktX5_doCommute_2 := dk_seg dksX5_doCommute_1 24 rfl rfl
theorem dksX5_doCommute_3 : cX5_doCommute.data.toList.drop 72 = dktX5_doCommute_3 := dk_seg dksX5_doCommute_2 24 rfl rfl
theorem dX5_doCommute_0 : decode cX5_doCommute 0 = .ok (.iconst 0, 1) := dk_3 (dk_at dksX5_doCommute_0 0 rfl rfl)
theorem dX5_doCommute_1 : decode cX5_doCommute 1 = .ok (.istore 4, 2) := dk_54 4 (dk_at dksX5_doCommute_0 1 rfl rfl)
theorem dX5_doCommute_3 : decode cX5_doCommute 3 = .ok (.iconst 0, 1) := dk_3 (dk_at dksX5_doCommute_0 3 rfl rfl)
theorem dX5_doCommute_4 : decode cX5_doCommute 4 = .ok (.istore 5, 2) := dk_54 5 (dk_at dksX5_doCommute_0 4 rfl rfl)
theorem dX5_doCommute_6 : decode cX5_doCommute 6 = .ok (.iload 5, 2) := dk_21 5 (dk_at dksX5_doCommute_0 6 rfl rfl)
theorem dX5_doCommute_8 : decode cX5_doCommute 8 = .ok (.bipush 8, 2) := dk_16 8 (dk_at dksX5_doCommute_0 8 rfl rfl)
theorem dX5_doCommute_10 : decode cX5_doCommute 10 = .ok (.if_icmp .ge 50, 3) := dk_162 0 50 (dk_at dksX5_doCommute_0 10 rfl rfl)
theorem dX5_doCommute_13 : decode cX5_doCommute 13 = .ok (.iload_n 0, 1) := dk_26 (dk_at dksX5_doCommute_0 13 rfl rfl)
theorem dX5_doCommute_14 : decode cX5_doCommute 14 = .ok (.iload_n 1, 1) := dk_27 (dk_at dksX5_doCommute_0 14 rfl rfl)
theorem dX5_doCommute_15 : decode cX5_doCommute 15 = .ok (.iload 5, 2) := dk_21 5 (dk_at dksX5_doCommute_0 15 rfl rfl)
theorem dX5_doCommute_17 : decode cX5_doCommute 17 = .ok (.invokestatic 95, 3) := dk_184 0 95 (dk_at dksX5_doCommute_0 17 rfl rfl)
theorem dX5_doCommute_20 : decode cX5_doCommute 20 = .ok (.istore 6, 2) := dk_54 6 (dk_at dksX5_doCommute_0 20 rfl rfl)
theorem dX5_doCommute_22 : decode cX5_doCommute 22 = .ok (.iload_n 2, 1) := dk_28 (dk_at dksX5_doCommute_0 22 rfl rfl)
theorem dX5_doCommute_23 : decode cX5_doCommute 23 = .ok (.iload_n 3, 1) := dk_29 (dk_at dksX5_doCommute_0 23 rfl rfl)
theorem dX5_doCommute_24 : decode cX5_doCommute 24 = .ok (.iload 5, 2) := dk_21 5 (dk_at dksX5_doCommute_1 0 rfl rfl)
theorem dX5_doCommute_26 : decode cX5_doCommute 26 = .ok (.invokestatic 95, 3) := dk_184 0 95 (dk_at dksX5_doCommute_1 2 rfl rfl)
theorem dX5_doCommute_29 : decode cX5_doCommute 29 = .ok (.istore 7, 2) := dk_54 7 (dk_at dksX5_doCommute_1 5 rfl rfl)
theorem dX5_doCommute_31 : decode cX5_doCommute 31 = .ok (.iload 6, 2) := dk_21 6 (dk_at dksX5_doCommute_1 7 rfl rfl)
theorem dX5_doCommute_33 : decode cX5_doCommute 33 = .ok (.ifCond .eq 21, 3) := dk_153 0 21 (dk_at dksX5_doCommute_1 9 rfl rfl)
theorem dX5_doCommute_36 : decode cX5_doCommute 36 = .ok (.iload 7, 2) := dk_21 7 (dk_at dksX5_doCommute_1 12 rfl rfl)
theorem dX5_doCommute_38 : decode cX5_doCommute 38 = .ok (.ifCond .eq 16, 3) := dk_153 0 16 (dk_at dksX5_doCommute_1 14 rfl rfl)
theorem dX5_doCommute_41 : decode cX5_doCommute 41 = .ok (.iload 6, 2) := dk_21 6 (dk_at dksX5_doCommute_1 17 rfl rfl)
theorem dX5_doCommute_43 : decode cX5_doCommute 43 = .ok (.iload 7, 2) := dk_21 7 (dk_at dksX5_doCommute_1 19 rfl rfl)
theorem dX5_doCommute_45 : decode cX5_doCommute 45 = .ok (.if_icmp .eq 9, 3) := dk_159 0 9 (dk_at dksX5_doCommute_1 21 rfl rfl)
theorem dX5_doCommute_48 : decode cX5_doCommute 48 = .ok (.iload 4, 2) := dk_21 4 (dk_at dksX5_doCommute_2 0 rfl rfl)
theorem dX5_doCommute_50 : decode cX5_doCommute 50 = .ok (.iconst 1, 1) := dk_4 (dk_at dksX5_doCommute_2 2 rfl rfl)
theorem dX5_doCommute_51 : decode cX5_doCommute 51 = .ok (.iadd, 1) := dk_96 (dk_at dksX5_doCommute_2 3 rfl rfl)
theorem dX5_doCommute_52 : decode cX5_doCommute 52 = .ok (.istore 4, 2) := dk_54 4 (dk_at dksX5_doCommute_2 4 rfl rfl)
theorem dX5_doCommute_54 : decode cX5_doCommute 54 = .ok (.iinc 5 1, 3) := dk_132 5 1 (dk_at dksX5_doCommute_2 6 rfl rfl)
theorem dX5_doCommute_57 : decode cX5_doCommute 57 = .ok (.goto (-51), 3) := dk_167 255 205 (dk_at dksX5_doCommute_2 9 rfl rfl)
theorem dX5_doCommute_60 : decode cX5_doCommute 60 = .ok (.iload 4, 2) := dk_21 4 (dk_at dksX5_doCommute_2 12 rfl rfl)
theorem dX5_doCommute_62 : decode cX5_doCommute 62 = .ok (.iconst 2, 1) := dk_5 (dk_at dksX5_doCommute_2 14 rfl rfl)
theorem dX5_doCommute_63 : decode cX5_doCommute 63 = .ok (.irem, 1) := dk_112 (dk_at dksX5_doCommute_2 15 rfl rfl)
theorem dX5_doCommute_64 : decode cX5_doCommute 64 = .ok (.ifCond .ne 7, 3) := dk_154 0 7 (dk_at dksX5_doCommute_2 16 rfl rfl)
theorem dX5_doCommute_67 : decode cX5_doCommute 67 = .ok (.iconst 1, 1) := dk_4 (dk_at dksX5_doCommute_2 19 rfl rfl)
theorem dX5_doCommute_68 : decode cX5_doCommute 68 = .ok (.goto 4, 3) := dk_167 0 4 (dk_at dksX5_doCommute_2 20 rfl rfl)
theorem dX5_doCommute_71 : decode cX5_doCommute 71 = .ok (.iconst 0, 1) := dk_3 (dk_at dksX5_doCommute_2 23 rfl rfl)
theorem dX5_doCommute_72 : decode cX5_doCommute 72 = .ok (.ireturn, 1) := dk_172 (dk_at dksX5_doCommute_3 0 rfl rfl)
abbrev cX5_setOf : ByteArray := prog_16_method_33_code
def yX5_setOf : MethodName := ⟨RX5, "setOf", "(II)I"⟩
def dkwX5_setOf_1 : List UInt8 := [180, 0, 102, 28, 160, 0, 5, 29, 172, 132, 3, 1, 167, 255, 222, 2, 172]
abbrev dktX5_setOf_1 : List UInt8 := dkwX5_setOf_1 ++ []
def dkwX5_setOf_0 : List UInt8 := [3, 62, 29, 42, 182, 0, 169, 162, 0, 32, 42, 29, 182, 0, 172, 42, 180, 0, 99, 27, 160, 0, 13, 42]
abbrev dktX5_setOf_0 : List UInt8 := dkwX5_setOf_0 ++ dktX5_setOf_1
theorem dksX5_setOf_0 : cX5_setOf.data.toList.drop 0 = dktX5_setOf_0 := by decide +kernel
theorem dksX5_setOf_1 : cX5_setOf.data.toList.drop 24 = dktX5_setOf_1 := dk_seg dksX5_setOf_0 24 rfl rfl
theorem dX5_setOf_0 : decode cX5_setOf 0 = .ok (.iconst 0, 1) := dk_3 (dk_at dksX5_setOf_0 0 rfl rfl)
theorem dX5_setOf_1 : decode cX5_setOf 1 = .ok (.istore_n 3, 1) := dk_62 (dk_at dksX5_setOf_0 1 rfl rfl)
theorem dX5_setOf_2 : decode cX5_setOf 2 = .ok (.iload_n 3, 1) := dk_29 (dk_at dksX5_setOf_0 2 rfl rfl)
theorem dX5_setOf_3 : decode cX5_setOf 3 = .ok (.aload_n 0, 1) := dk_42 (dk_at dksX5_setOf_0 3 rfl rfl)
theorem dX5_setOf_4 : decode cX5_setOf 4 = .ok (.invokevirtual 169, 3) := dk_182 0 169 (dk_at dksX5_setOf_0 4 rfl rfl)
theorem dX5_setOf_7 : decode cX5_setOf 7 = .ok (.if_icmp .ge 32, 3) := dk_162 0 32 (dk_at dksX5_setOf_0 7 rfl rfl)
theorem dX5_setOf_10 : decode cX5_setOf 10 = .ok (.aload_n 0, 1) := dk_42 (dk_at dksX5_setOf_0 10 rfl rfl)
theorem dX5_setOf_11 : decode cX5_setOf 11 = .ok (.iload_n 3, 1) := dk_29 (dk_at dksX5_setOf_0 11 rfl rfl)
theorem dX5_setOf_12 : decode cX5_setOf 12 = .ok (.invokevirtual 172, 3) := dk_182 0 172 (dk_at dksX5_setOf_0 12 rfl rfl)
theorem dX5_setOf_15 : decode cX5_setOf 15 = .ok (.aload_n 0, 1) := dk_42 (dk_at dksX5_setOf_0 15 rfl rfl)
theorem dX5_setOf_16 : decode cX5_setOf 16 = .ok (.getfield 99, 3) := dk_180 0 99 (dk_at dksX5_setOf_0 16 rfl rfl)
theorem dX5_setOf_19 : decode cX5_setOf 19 = .ok (.iload_n 1, 1) := dk_27 (dk_at dksX5_setOf_0 19 rfl rfl)
theorem dX5_setOf_20 : decode cX5_setOf 20 = .ok (.if_icmp .ne 13, 3) := dk_160 0 13 (dk_at dksX5_setOf_0 20 rfl rfl)
theorem dX5_setOf_23 : decode cX5_setOf 23 = .ok (.aload_n 0, 1) := dk_42 (dk_at dksX5_setOf_0 23 rfl rfl)
theorem dX5_setOf_24 : decode cX5_setOf 24 = .ok (.getfield 102, 3) := dk_180 0 102 (dk_at dksX5_setOf_1 0 rfl rfl)
theorem dX5_setOf_27 : decode cX5_setOf 27 = .ok (.iload_n 2, 1) := dk_28 (dk_at dksX5_setOf_1 3 rfl rfl)
theorem dX5_setOf_28 : decode cX5_setOf 28 = .ok (.if_icmp .ne 5, 3) := dk_160 0 5 (dk_at dksX5_setOf_1 4 rfl rfl)
theorem dX5_setOf_31 : decode cX5_setOf 31 = .ok (.iload_n 3, 1) := dk_29 (dk_at dksX5_setOf_1 7 rfl rfl)
theorem dX5_setOf_32 : decode cX5_setOf 32 = .ok (.ireturn, 1) := dk_172 (dk_at dksX5_setOf_1 8 rfl rfl)
theorem dX5_setOf_33 : decode cX5_setOf 33 = .ok (.iinc 3 1, 3) := dk_132 3 1 (dk_at dksX5_setOf_1 9 rfl rfl)
theorem dX5_setOf_36 : decode cX5_setOf 36 = .ok (.goto (-34), 3) := dk_167 255 222 (dk_at dksX5_setOf_1 12 rfl rfl)
theorem dX5_setOf_39 : decode cX5_setOf 39 = .ok (.iconst (-1), 1) := dk_2 (dk_at dksX5_setOf_1 15 rfl rfl)
theorem dX5_setOf_40 : decode cX5_setOf 40 = .ok (.ireturn, 1) := dk_172 (dk_at dksX5_setOf_1 16 rfl rfl)
abbrev cX5_takesElement : ByteArray := prog_16_method_31_code
def yX5_takesElement : MethodName := ⟨RX5, "takesElement", "(I)V"⟩
def dkwX5_takesElement_2 : List UInt8 := [180, 0, 7, 16, 22, 28, 96, 46, 182, 0, 120, 132, 2, 1, 167, 255, 204, 177]
abbrev dktX5_takesElement_2 : List UInt8 := dkwX5_takesElement_2 ++ []
def dkwX5_takesElement_1 : List UInt8 := [153, 0, 34, 42, 42, 180, 0, 7, 16, 6, 28, 96, 46, 42, 180, 0, 7, 16, 14, 28, 96, 46, 42]
abbrev dktX5_takesElement_1 : List UInt8 := dkwX5_takesElement_1 ++ dktX5_takesElement_2
def dkwX5_takesElement_0 : List UInt8 := [42, 3, 3, 3, 182, 0, 112, 3, 61, 28, 42, 180, 0, 7, 3, 46, 162, 0, 48, 27, 28, 184, 0, 91]
abbrev dktX5_takesElement_0 : List UInt8 := dkwX5_takesElement_0 ++ dktX5_takesElement_1
theorem dksX5_takesElement_0 : cX5_takesElement.data.toList.drop 0 = dktX5_takesElement_0 := by decide +kernel
theorem dksX5_takesElement_1 : cX5_takesElement.data.toList.drop 24 = dktX5_takesElement_1 := dk_seg dksX5_takesElement_0 24 rfl rfl
theorem dksX5_takesElement_2 : cX5_takesElement.data.toList.drop 47 = dktX5_takesElement_2 := dk_seg dksX5_takesElement_1 23 rfl rfl
theorem dX5_takesElement_0 : decode cX5_takesElement 0 = .ok (.aload_n 0, 1) := dk_42 (dk_at dksX5_takesElement_0 0 rfl rfl)
theorem dX5_takesElement_1 : decode cX5_takesElement 1 = .ok (.iconst 0, 1) := dk_3 (dk_at dksX5_takesElement_0 1 rfl rfl)
theorem dX5_takesElement_2 : decode cX5_takesElement 2 = .ok (.iconst 0, 1) := dk_3 (dk_at dksX5_takesElement_0 2 rfl rfl)
theorem dX5_takesElement_3 : decode cX5_takesElement 3 = .ok (.iconst 0, 1) := dk_3 (dk_at dksX5_takesElement_0 3 rfl rfl)
theorem dX5_takesElement_4 : decode cX5_takesElement 4 = .ok (.invokevirtual 112, 3) := dk_182 0 112 (dk_at dksX5_takesElement_0 4 rfl rfl)
theorem dX5_takesElement_7 : decode cX5_takesElement 7 = .ok (.iconst 0, 1) := dk_3 (dk_at dksX5_takesElement_0 7 rfl rfl)
theorem dX5_takesElement_8 : decode cX5_takesElement 8 = .ok (.istore_n 2, 1) := dk_61 (dk_at dksX5_takesElement_0 8 rfl rfl)
theorem dX5_takesElement_9 : decode cX5_takesElement 9 = .ok (.iload_n 2, 1) := dk_28 (dk_at dksX5_takesElement_0 9 rfl rfl)
theorem dX5_takesElement_10 : decode cX5_takesElement 10 = .ok (.aload_n 0, 1) := dk_42 (dk_at dksX5_takesElement_0 10 rfl rfl)
theorem dX5_takesElement_11 : decode cX5_takesElement 11 = .ok (.getfield 7, 3) := dk_180 0 7 (dk_at dksX5_takesElement_0 11 rfl rfl)
theorem dX5_takesElement_14 : decode cX5_takesElement 14 = .ok (.iconst 0, 1) := dk_3 (dk_at dksX5_takesElement_0 14 rfl rfl)
theorem dX5_takesElement_15 : decode cX5_takesElement 15 = .ok (.iaload, 1) := dk_46 (dk_at dksX5_takesElement_0 15 rfl rfl)
theorem dX5_takesElement_16 : decode cX5_takesElement 16 = .ok (.if_icmp .ge 48, 3) := dk_162 0 48 (dk_at dksX5_takesElement_0 16 rfl rfl)
theorem dX5_takesElement_19 : decode cX5_takesElement 19 = .ok (.iload_n 1, 1) := dk_27 (dk_at dksX5_takesElement_0 19 rfl rfl)
theorem dX5_takesElement_20 : decode cX5_takesElement 20 = .ok (.iload_n 2, 1) := dk_28 (dk_at dksX5_takesElement_0 20 rfl rfl)
theorem dX5_takesElement_21 : decode cX5_takesElement 21 = .ok (.invokestatic 91, 3) := dk_184 0 91 (dk_at dksX5_takesElement_0 21 rfl rfl)
theorem dX5_takesElement_24 : decode cX5_takesElement 24 = .ok (.ifCond .eq 34, 3) := dk_153 0 34 (dk_at dksX5_takesElement_1 0 rfl rfl)
theorem dX5_takesElement_27 : decode cX5_takesElement 27 = .ok (.aload_n 0, 1) := dk_42 (dk_at dksX5_takesElement_1 3 rfl rfl)
theorem dX5_takesElement_28 : decode cX5_takesElement 28 = .ok (.aload_n 0, 1) := dk_42 (dk_at dksX5_takesElement_1 4 rfl rfl)
theorem dX5_takesElement_29 : decode cX5_takesElement 29 = .ok (.getfield 7, 3) := dk_180 0 7 (dk_at dksX5_takesElement_1 5 rfl rfl)
theorem dX5_takesElement_32 : decode cX5_takesElement 32 = .ok (.bipush 6, 2) := dk_16 6 (dk_at dksX5_takesElement_1 8 rfl rfl)
theorem dX5_takesElement_34 : decode cX5_takesElement 34 = .ok (.iload_n 2, 1) := dk_28 (dk_at dksX5_takesElement_1 10 rfl rfl)
theorem dX5_takesElement_35 : decode cX5_takesElement 35 = .ok (.iadd, 1) := dk_96 (dk_at dksX5_takesElement_1 11 rfl rfl)
theorem dX5_takesElement_36 : decode cX5_takesElement 36 = .ok (.iaload, 1) := dk_46 (dk_at dksX5_takesElement_1 12 rfl rfl)
theorem dX5_takesElement_37 : decode cX5_takesElement 37 = .ok (.aload_n 0, 1) := dk_42 (dk_at dksX5_takesElement_1 13 rfl rfl)
theorem dX5_takesElement_38 : decode cX5_takesElement 38 = .ok (.getfield 7, 3) := dk_180 0 7 (dk_at dksX5_takesElement_1 14 rfl rfl)
theorem dX5_takesElement_41 : decode cX5_takesElement 41 = .ok (.bipush 14, 2) := dk_16 14 (dk_at dksX5_takesElement_1 17 rfl rfl)
theorem dX5_takesElement_43 : decode cX5_takesElement 43 = .ok (.iload_n 2, 1) := dk_28 (dk_at dksX5_takesElement_1 19 rfl rfl)
theorem dX5_takesElement_44 : decode cX5_takesElement 44 = .ok (.iadd, 1) := dk_96 (dk_at dksX5_takesElement_1 20 rfl rfl)
theorem dX5_takesElement_45 : decode cX5_takesElement 45 = .ok (.iaload, 1) := dk_46 (dk_at dksX5_takesElement_1 21 rfl rfl)
theorem dX5_takesElement_46 : decode cX5_takesElement 46 = .ok (.aload_n 0, 1) := dk_42 (dk_at dksX5_takesElement_1 22 rfl rfl)
theorem dX5_takesElement_47 : decode cX5_takesElement 47 = .ok (.getfield 7, 3) := dk_180 0 7 (dk_at dksX5_takesElement_2 0 rfl rfl)
theorem dX5_takesElement_50 : decode cX5_takesElement 50 = .ok (.bipush 22, 2) := dk_16 22 (dk_at dksX5_takesElement_2 3 rfl rfl)
theorem dX5_takesElement_52 : decode cX5_takesElement 52 = .ok (.iload_n 2, 1) := dk_28 (dk_at dksX5_takesElement_2 5 rfl rfl)
theorem dX5_takesElement_53 : decode cX5_takesElement 53 = .ok (.iadd, 1) := dk_96 (dk_at dksX5_takesElement_2 6 rfl rfl)
theorem dX5_takesElement_54 : decode cX5_takesElement 54 = .ok (.iaload, 1) := dk_46 (dk_at dksX5_takesElement_2 7 rfl rfl)
theorem dX5_takesElement_55 : decode cX5_takesElement 55 = .ok (.invokevirtual 120, 3) := dk_182 0 120 (dk_at dksX5_takesElement_2 8 rfl rfl)
theorem dX5_takesElement_58 : decode cX5_takesElement 58 = .ok (.iinc 2 1, 3) := dk_132 2 1 (dk_at dksX5_takesElement_2 11 rfl rfl)
theorem dX5_takesElement_61 : decode cX5_takesElement 61 = .ok (.goto (-52), 3) := dk_167 255 204 (dk_at dksX5_takesElement_2 14 rfl rfl)
theorem dX5_takesElement_64 : decode cX5_takesElement 64 = .ok (.return_, 1) := dk_177 (dk_at dksX5_takesElement_2 17 rfl rfl)
abbrev cX5_times : ByteArray := prog_16_method_18_code
def yX5_times : MethodName := ⟨RX5, "times", "(III)V"⟩
def dkwX5_times_2 : List UInt8 := [182, 0, 112, 177]
abbrev dktX5_times_2 : List UInt8 := dkwX5_times_2 ++ []
def dkwX5_times_1 : List UInt8 := [180, 0, 102, 28, 130, 42, 180, 0, 105, 29, 130, 21, 4, 5, 160, 0, 7, 4, 167, 0, 4, 3, 130]
abbrev dktX5_times_1 : List UInt8 := dkwX5_times_1 ++ dktX5_times_2
def dkwX5_times_0 : List UInt8 := [42, 180, 0, 99, 42, 180, 0, 102, 27, 28, 184, 0, 108, 54, 4, 42, 42, 180, 0, 99, 27, 130, 42]
abbrev dktX5_times_0 : List UInt8 := dkwX5_times_0 ++ dktX5_times_1
theorem dksX5_times_0 : cX5_times.data.toList.drop 0 = dktX5_times_0 := by decide +kernel
theorem dksX5_times_1 : cX5_times.data.toList.drop 23 = dktX5_times_1 := dk_seg dksX5_times_0 23 rfl rfl
theorem dksX5_times_2 : cX5_times.data.toList.drop 46 = dktX5_times_2 := dk_seg dksX5_times_1 23 rfl rfl
theorem dX5_times_0 : decode cX5_times 0 = .ok (.aload_n 0, 1) := dk_42 (dk_at dksX5_times_0 0 rfl rfl)
theorem dX5_times_1 : decode cX5_times 1 = .ok (.getfield 99, 3) := dk_180 0 99 (dk_at dksX5_times_0 1 rfl rfl)
theorem dX5_times_4 : decode cX5_times 4 = .ok (.aload_n 0, 1) := dk_42 (dk_at dksX5_times_0 4 rfl rfl)
theorem dX5_times_5 : decode cX5_times 5 = .ok (.getfield 102, 3) := dk_180 0 102 (dk_at dksX5_times_0 5 rfl rfl)
theorem dX5_times_8 : decode cX5_times 8 = .ok (.iload_n 1, 1) := dk_27 (dk_at dksX5_times_0 8 rfl rfl)
theorem dX5_times_9 : decode cX5_times 9 = .ok (.iload_n 2, 1) := dk_28 (dk_at dksX5_times_0 9 rfl rfl)
theorem dX5_times_10 : decode cX5_times 10 = .ok (.invokestatic 108, 3) := dk_184 0 108 (dk_at dksX5_times_0 10 rfl rfl)
theorem dX5_times_13 : decode cX5_times 13 = .ok (.istore 4, 2) := dk_54 4 (dk_at dksX5_times_0 13 rfl rfl)
theorem dX5_times_15 : decode cX5_times 15 = .ok (.aload_n 0, 1) := dk_42 (dk_at dksX5_times_0 15 rfl rfl)
theorem dX5_times_16 : decode cX5_times 16 = .ok (.aload_n 0, 1) := dk_42 (dk_at dksX5_times_0 16 rfl rfl)
theorem dX5_times_17 : decode cX5_times 17 = .ok (.getfield 99, 3) := dk_180 0 99 (dk_at dksX5_times_0 17 rfl rfl)
theorem dX5_times_20 : decode cX5_times 20 = .ok (.iload_n 1, 1) := dk_27 (dk_at dksX5_times_0 20 rfl rfl)
theorem dX5_times_21 : decode cX5_times 21 = .ok (.ixor, 1) := dk_130 (dk_at dksX5_times_0 21 rfl rfl)
theorem dX5_times_22 : decode cX5_times 22 = .ok (.aload_n 0, 1) := dk_42 (dk_at dksX5_times_0 22 rfl rfl)
theorem dX5_times_23 : decode cX5_times 23 = .ok (.getfield 102, 3) := dk_180 0 102 (dk_at dksX5_times_1 0 rfl rfl)
theorem dX5_times_26 : decode cX5_times 26 = .ok (.iload_n 2, 1) := dk_28 (dk_at dksX5_times_1 3 rfl rfl)
theorem dX5_times_27 : decode cX5_times 27 = .ok (.ixor, 1) := dk_130 (dk_at dksX5_times_1 4 rfl rfl)
theorem dX5_times_28 : decode cX5_times 28 = .ok (.aload_n 0, 1) := dk_42 (dk_at dksX5_times_1 5 rfl rfl)
theorem dX5_times_29 : decode cX5_times 29 = .ok (.getfield 105, 3) := dk_180 0 105 (dk_at dksX5_times_1 6 rfl rfl)
theorem dX5_times_32 : decode cX5_times 32 = .ok (.iload_n 3, 1) := dk_29 (dk_at dksX5_times_1 9 rfl rfl)
theorem dX5_times_33 : decode cX5_times 33 = .ok (.ixor, 1) := dk_130 (dk_at dksX5_times_1 10 rfl rfl)
theorem dX5_times_34 : decode cX5_times 34 = .ok (.iload 4, 2) := dk_21 4 (dk_at dksX5_times_1 11 rfl rfl)
theorem dX5_times_36 : decode cX5_times 36 = .ok (.iconst 2, 1) := dk_5 (dk_at dksX5_times_1 13 rfl rfl)
theorem dX5_times_37 : decode cX5_times 37 = .ok (.if_icmp .ne 7, 3) := dk_160 0 7 (dk_at dksX5_times_1 14 rfl rfl)
theorem dX5_times_40 : decode cX5_times 40 = .ok (.iconst 1, 1) := dk_4 (dk_at dksX5_times_1 17 rfl rfl)
theorem dX5_times_41 : decode cX5_times 41 = .ok (.goto 4, 3) := dk_167 0 4 (dk_at dksX5_times_1 18 rfl rfl)
theorem dX5_times_44 : decode cX5_times 44 = .ok (.iconst 0, 1) := dk_3 (dk_at dksX5_times_1 21 rfl rfl)
theorem dX5_times_45 : decode cX5_times 45 = .ok (.ixor, 1) := dk_130 (dk_at dksX5_times_1 22 rfl rfl)
theorem dX5_times_46 : decode cX5_times 46 = .ok (.invokevirtual 112, 3) := dk_182 0 112 (dk_at dksX5_times_2 0 rfl rfl)
theorem dX5_times_49 : decode cX5_times 49 = .ok (.return_, 1) := dk_177 (dk_at dksX5_times_2 3 rfl rfl)
abbrev cX5_phaseOf : ByteArray := prog_16_method_15_code
def yX5_phaseOf : MethodName := ⟨RX5, "phaseOf", "(IIII)I"⟩
def dkwX5_phaseOf_3 : List UInt8 := [132, 5, 1, 167, 255, 187, 21, 4, 7, 112, 172]
abbrev dktX5_phaseOf_3 : List UInt8 := dkwX5_phaseOf_3 ++ []
def dkwX5_phaseOf_2 : List UInt8 := [167, 0, 24, 21, 4, 21, 7, 21, 6, 6, 112, 4, 96, 160, 0, 7, 4, 167, 0, 4, 6, 96, 54, 4]
abbrev dktX5_phaseOf_2 : List UInt8 := dkwX5_phaseOf_2 ++ dktX5_phaseOf_3
def dkwX5_phaseOf_1 : List UInt8 := [21, 5, 184, 0, 95, 54, 7, 21, 6, 153, 0, 39, 21, 7, 153, 0, 34, 21, 6, 21, 7, 160, 0, 6]
abbrev dktX5_phaseOf_1 : List UInt8 := dkwX5_phaseOf_1 ++ dktX5_phaseOf_2
def dkwX5_phaseOf_0 : List UInt8 := [3, 54, 4, 3, 54, 5, 21, 5, 16, 8, 162, 0, 68, 26, 27, 21, 5, 184, 0, 95, 54, 6, 28, 29]
abbrev dktX5_phaseOf_0 : List UInt8 := dkwX5_phaseOf_0 ++ dktX5_phaseOf_1
theorem dksX5_phaseOf_0 : cX5_phaseOf.data.toList.drop 0 = dktX5_phaseOf_0 := by decide +kernel
theorem dksX5_phaseOf_1 : cX5_phaseOf.data.toList.drop 24 = dktX5_phaseOf_1 := dk_seg dksX5_phaseOf_0 24 rfl rfl
theorem dksX5_phaseOf_2 : cX5_phaseOf.data.toList.drop 48 = dktX5_phaseOf_2 := dk_seg dksX5_phaseOf_1 24 rfl rfl
theorem dksX5_phaseOf_3 : cX5_phaseOf.data.toList.drop 72 = dktX5_phaseOf_3 := dk_seg dksX5_phaseOf_2 24 rfl rfl
theorem dX5_phaseOf_0 : decode cX5_phaseOf 0 = .ok (.iconst 0, 1) := dk_3 (dk_at dksX5_phaseOf_0 0 rfl rfl)
theorem dX5_phaseOf_1 : decode cX5_phaseOf 1 = .ok (.istore 4, 2) := dk_54 4 (dk_at dksX5_phaseOf_0 1 rfl rfl)
theorem dX5_phaseOf_3 : decode cX5_phaseOf 3 = .ok (.iconst 0, 1) := dk_3 (dk_at dksX5_phaseOf_0 3 rfl rfl)
theorem dX5_phaseOf_4 : decode cX5_phaseOf 4 = .ok (.istore 5, 2) := dk_54 5 (dk_at dksX5_phaseOf_0 4 rfl rfl)
theorem dX5_phaseOf_6 : decode cX5_phaseOf 6 = .ok (.iload 5, 2) := dk_21 5 (dk_at dksX5_phaseOf_0 6 rfl rfl)
theorem dX5_phaseOf_8 : decode cX5_phaseOf 8 = .ok (.bipush 8, 2) := dk_16 8 (dk_at dksX5_phaseOf_0 8 rfl rfl)
theorem dX5_phaseOf_10 : decode cX5_phaseOf 10 = .ok (.if_icmp .ge 68, 3) := dk_162 0 68 (dk_at dksX5_phaseOf_0 10 rfl rfl)
theorem dX5_phaseOf_13 : decode cX5_phaseOf 13 = .ok (.iload_n 0, 1) := dk_26 (dk_at dksX5_phaseOf_0 13 rfl rfl)
theorem dX5_phaseOf_14 : decode cX5_phaseOf 14 = .ok (.iload_n 1, 1) := dk_27 (dk_at dksX5_phaseOf_0 14 rfl rfl)
theorem dX5_phaseOf_15 : decode cX5_phaseOf 15 = .ok (.iload 5, 2) := dk_21 5 (dk_at dksX5_phaseOf_0 15 rfl rfl)
theorem dX5_phaseOf_17 : decode cX5_phaseOf 17 = .ok (.invokestatic 95, 3) := dk_184 0 95 (dk_at dksX5_phaseOf_0 17 rfl rfl)
theorem dX5_phaseOf_20 : decode cX5_phaseOf 20 = .ok (.istore 6, 2) := dk_54 6 (dk_at dksX5_phaseOf_0 20 rfl rfl)
theorem dX5_phaseOf_22 : decode cX5_phaseOf 22 = .ok (.iload_n 2, 1) := dk_28 (dk_at dksX5_phaseOf_0 22 rfl rfl)
theorem dX5_phaseOf_23 : decode cX5_phaseOf 23 = .ok (.iload_n 3, 1) := dk_29 (dk_at dksX5_phaseOf_0 23 rfl rfl)
theorem dX5_phaseOf_24 : decode cX5_phaseOf 24 = .ok (.iload 5, 2) := dk_21 5 (dk_at dksX5_phaseOf_1 0 rfl rfl)
theorem dX5_phaseOf_26 : decode cX5_phaseOf 26 = .ok (.invokestatic 95, 3) := dk_184 0 95 (dk_at dksX5_phaseOf_1 2 rfl rfl)
theorem dX5_phaseOf_29 : decode cX5_phaseOf 29 = .ok (.istore 7, 2) := dk_54 7 (dk_at dksX5_phaseOf_1 5 rfl rfl)
theorem dX5_phaseOf_31 : decode cX5_phaseOf 31 = .ok (.iload 6, 2) := dk_21 6 (dk_at dksX5_phaseOf_1 7 rfl rfl)
theorem dX5_phaseOf_33 : decode cX5_phaseOf 33 = .ok (.ifCond .eq 39, 3) := dk_153 0 39 (dk_at dksX5_phaseOf_1 9 rfl rfl)
theorem dX5_phaseOf_36 : decode cX5_phaseOf 36 = .ok (.iload 7, 2) := dk_21 7 (dk_at dksX5_phaseOf_1 12 rfl rfl)
theorem dX5_phaseOf_38 : decode cX5_phaseOf 38 = .ok (.ifCond .eq 34, 3) := dk_153 0 34 (dk_at dksX5_phaseOf_1 14 rfl rfl)
theorem dX5_phaseOf_41 : decode cX5_phaseOf 41 = .ok (.iload 6, 2) := dk_21 6 (dk_at dksX5_phaseOf_1 17 rfl rfl)
theorem dX5_phaseOf_43 : decode cX5_phaseOf 43 = .ok (.iload 7, 2) := dk_21 7 (dk_at dksX5_phaseOf_1 19 rfl rfl)
theorem dX5_phaseOf_45 : decode cX5_phaseOf 45 = .ok (.if_icmp .ne 6, 3) := dk_160 0 6 (dk_at dksX5_phaseOf_1 21 rfl rfl)
theorem dX5_phaseOf_48 : decode cX5_phaseOf 48 = .ok (.goto 24, 3) := dk_167 0 24 (dk_at dksX5_phaseOf_2 0 rfl rfl)
theorem dX5_phaseOf_51 : decode cX5_phaseOf 51 = .ok (.iload 4, 2) := dk_21 4 (dk_at dksX5_phaseOf_2 3 rfl rfl)
theorem dX5_phaseOf_53 : decode cX5_phaseOf 53 = .ok (.iload 7, 2) := dk_21 7 (dk_at dksX5_phaseOf_2 5 rfl rfl)
theorem dX5_phaseOf_55 : decode cX5_phaseOf 55 = .ok (.iload 6, 2) := dk_21 6 (dk_at dksX5_phaseOf_2 7 rfl rfl)
theorem dX5_phaseOf_57 : decode cX5_phaseOf 57 = .ok (.iconst 3, 1) := dk_6 (dk_at dksX5_phaseOf_2 9 rfl rfl)
theorem dX5_phaseOf_58 : decode cX5_phaseOf 58 = .ok (.irem, 1) := dk_112 (dk_at dksX5_phaseOf_2 10 rfl rfl)
theorem dX5_phaseOf_59 : decode cX5_phaseOf 59 = .ok (.iconst 1, 1) := dk_4 (dk_at dksX5_phaseOf_2 11 rfl rfl)
theorem dX5_phaseOf_60 : decode cX5_phaseOf 60 = .ok (.iadd, 1) := dk_96 (dk_at dksX5_phaseOf_2 12 rfl rfl)
theorem dX5_phaseOf_61 : decode cX5_phaseOf 61 = .ok (.if_icmp .ne 7, 3) := dk_160 0 7 (dk_at dksX5_phaseOf_2 13 rfl rfl)
theorem dX5_phaseOf_64 : decode cX5_phaseOf 64 = .ok (.iconst 1, 1) := dk_4 (dk_at dksX5_phaseOf_2 16 rfl rfl)
theorem dX5_phaseOf_65 : decode cX5_phaseOf 65 = .ok (.goto 4, 3) := dk_167 0 4 (dk_at dksX5_phaseOf_2 17 rfl rfl)
theorem dX5_phaseOf_68 : decode cX5_phaseOf 68 = .ok (.iconst 3, 1) := dk_6 (dk_at dksX5_phaseOf_2 20 rfl rfl)
theorem dX5_phaseOf_69 : decode cX5_phaseOf 69 = .ok (.iadd, 1) := dk_96 (dk_at dksX5_phaseOf_2 21 rfl rfl)
theorem dX5_phaseOf_70 : decode cX5_phaseOf 70 = .ok (.istore 4, 2) := dk_54 4 (dk_at dksX5_phaseOf_2 22 rfl rfl)
theorem dX5_phaseOf_72 : decode cX5_phaseOf 72 = .ok (.iinc 5 1, 3) := dk_132 5 1 (dk_at dksX5_phaseOf_3 0 rfl rfl)
theorem dX5_phaseOf_75 : decode cX5_phaseOf 75 = .ok (.goto (-69), 3) := dk_167 255 187 (dk_at dksX5_phaseOf_3 3 rfl rfl)
theorem dX5_phaseOf_78 : decode cX5_phaseOf 78 = .ok (.iload 4, 2) := dk_21 4 (dk_at dksX5_phaseOf_3 6 rfl rfl)
theorem dX5_phaseOf_80 : decode cX5_phaseOf 80 = .ok (.iconst 4, 1) := dk_7 (dk_at dksX5_phaseOf_3 8 rfl rfl)
theorem dX5_phaseOf_81 : decode cX5_phaseOf 81 = .ok (.irem, 1) := dk_112 (dk_at dksX5_phaseOf_3 9 rfl rfl)
theorem dX5_phaseOf_82 : decode cX5_phaseOf 82 = .ok (.ireturn, 1) := dk_172 (dk_at dksX5_phaseOf_3 10 rfl rfl)
abbrev cX5_measures : ByteArray := prog_16_method_40_code
def yX5_measures : MethodName := ⟨RX5, "measures", "(IIII)I"⟩
def dkwX5_measures_6 : List UInt8 := [182, 0, 192, 21, 6, 172]
abbrev dktX5_measures_6 : List UInt8 := dkwX5_measures_6 ++ []
def dkwX5_measures_5 : List UInt8 := [160, 0, 7, 29, 167, 0, 6, 4, 29, 100, 182, 0, 112, 42, 21, 8, 182, 0, 123, 42, 21, 6, 4]
abbrev dktX5_measures_5 : List UInt8 := dkwX5_measures_5 ++ dktX5_measures_6
def dkwX5_measures_4 : List UInt8 := [153, 0, 11, 42, 21, 9, 21, 8, 182, 0, 199, 132, 9, 1, 167, 255, 224, 42, 27, 28, 21, 6, 4]
abbrev dktX5_measures_4 : List UInt8 := dkwX5_measures_4 ++ dktX5_measures_5
def dkwX5_measures_3 : List UInt8 := [4, 96, 54, 9, 21, 9, 42, 180, 0, 7, 3, 46, 162, 0, 27, 21, 7, 21, 9, 184, 0, 91]
abbrev dktX5_measures_3 : List UInt8 := dkwX5_measures_3 ++ dktX5_measures_4
def dkwX5_measures_2 : List UInt8 := [3, 54, 8, 21, 7, 21, 8, 184, 0, 91, 154, 0, 12, 21, 8, 4, 96, 54, 8, 167, 255, 240, 21, 8]
abbrev dktX5_measures_2 : List UInt8 := dkwX5_measures_2 ++ dktX5_measures_3
def dkwX5_measures_1 : List UInt8 := [21, 4, 154, 0, 10, 42, 182, 0, 196, 167, 0, 5, 21, 4, 54, 6, 42, 27, 28, 182, 0, 179, 54, 7]
abbrev dktX5_measures_1 : List UInt8 := dkwX5_measures_1 ++ dktX5_measures_2
def dkwX5_measures_0 : List UInt8 := [42, 27, 28, 29, 182, 0, 189, 54, 5, 21, 5, 153, 0, 13, 42, 21, 5, 3, 182, 0, 192, 21, 5, 172]
abbrev dktX5_measures_0 : List UInt8 := dkwX5_measures_0 ++ dktX5_measures_1
theorem dksX5_measures_0 : cX5_measures.data.toList.drop 0 = dktX5_measures_0 := by decide +kernel
theorem dksX5_measures_1 : cX5_measures.data.toList.drop 24 = dktX5_measures_1 := dk_seg dksX5_measures_0 24 rfl rfl
theorem dksX5_measures_2 : cX5_measures.data.toList.drop 48 = dktX5_measures_2 := dk_seg dksX5_measures_1 24 rfl rfl
theorem dksX5_measures_3 : cX5_measures.data.toList.drop 72 = dktX5_measures_3 := dk_seg dksX5_measures_2 24 rfl rfl
theorem dksX5_measures_4 : cX5_measures.data.toList.drop 94 = dktX5_measures_4 := dk_seg dksX5_measures_3 22 rfl rfl
theorem dksX5_measures_5 : cX5_measures.data.toList.drop 117 = dktX5_measures_5 := dk_seg dksX5_measures_4 23 rfl rfl
theorem dksX5_measures_6 : cX5_measures.data.toList.drop 140 = dktX5_measures_6 := dk_seg dksX5_measures_5 23 rfl rfl
theorem dX5_measures_0 : decode cX5_measures 0 = .ok (.aload_n 0, 1) := dk_42 (dk_at dksX5_measures_0 0 rfl rfl)
theorem dX5_measures_1 : decode cX5_measures 1 = .ok (.iload_n 1, 1) := dk_27 (dk_at dksX5_measures_0 1 rfl rfl)
theorem dX5_measures_2 : decode cX5_measures 2 = .ok (.iload_n 2, 1) := dk_28 (dk_at dksX5_measures_0 2 rfl rfl)
theorem dX5_measures_3 : decode cX5_measures 3 = .ok (.iload_n 3, 1) := dk_29 (dk_at dksX5_measures_0 3 rfl rfl)
theorem dX5_measures_4 : decode cX5_measures 4 = .ok (.invokevirtual 189, 3) := dk_182 0 189 (dk_at dksX5_measures_0 4 rfl rfl)
theorem dX5_measures_7 : decode cX5_measures 7 = .ok (.istore 5, 2) := dk_54 5 (dk_at dksX5_measures_0 7 rfl rfl)
theorem dX5_measures_9 : decode cX5_measures 9 = .ok (.iload 5, 2) := dk_21 5 (dk_at dksX5_measures_0 9 rfl rfl)
theorem dX5_measures_11 : decode cX5_measures 11 = .ok (.ifCond .eq 13, 3) := dk_153 0 13 (dk_at dksX5_measures_0 11 rfl rfl)
theorem dX5_measures_14 : decode cX5_measures 14 = .ok (.aload_n 0, 1) := dk_42 (dk_at dksX5_measures_0 14 rfl rfl)
theorem dX5_measures_15 : decode cX5_measures 15 = .ok (.iload 5, 2) := dk_21 5 (dk_at dksX5_measures_0 15 rfl rfl)
theorem dX5_measures_17 : decode cX5_measures 17 = .ok (.iconst 0, 1) := dk_3 (dk_at dksX5_measures_0 17 rfl rfl)
theorem dX5_measures_18 : decode cX5_measures 18 = .ok (.invokevirtual 192, 3) := dk_182 0 192 (dk_at dksX5_measures_0 18 rfl rfl)
theorem dX5_measures_21 : decode cX5_measures 21 = .ok (.iload 5, 2) := dk_21 5 (dk_at dksX5_measures_0 21 rfl rfl)
theorem dX5_measures_23 : decode cX5_measures 23 = .ok (.ireturn, 1) := dk_172 (dk_at dksX5_measures_0 23 rfl rfl)
theorem dX5_measures_24 : decode cX5_measures 24 = .ok (.iload 4, 2) := dk_21 4 (dk_at dksX5_measures_1 0 rfl rfl)
theorem dX5_measures_26 : decode cX5_measures 26 = .ok (.ifCond .ne 10, 3) := dk_154 0 10 (dk_at dksX5_measures_1 2 rfl rfl)
theorem dX5_measures_29 : decode cX5_measures 29 = .ok (.aload_n 0, 1) := dk_42 (dk_at dksX5_measures_1 5 rfl rfl)
theorem dX5_measures_30 : decode cX5_measures 30 = .ok (.invokevirtual 196, 3) := dk_182 0 196 (dk_at dksX5_measures_1 6 rfl rfl)
theorem dX5_measures_33 : decode cX5_measures 33 = .ok (.goto 5, 3) := dk_167 0 5 (dk_at dksX5_measures_1 9 rfl rfl)
theorem dX5_measures_36 : decode cX5_measures 36 = .ok (.iload 4, 2) := dk_21 4 (dk_at dksX5_measures_1 12 rfl rfl)
theorem dX5_measures_38 : decode cX5_measures 38 = .ok (.istore 6, 2) := dk_54 6 (dk_at dksX5_measures_1 14 rfl rfl)
theorem dX5_measures_40 : decode cX5_measures 40 = .ok (.aload_n 0, 1) := dk_42 (dk_at dksX5_measures_1 16 rfl rfl)
theorem dX5_measures_41 : decode cX5_measures 41 = .ok (.iload_n 1, 1) := dk_27 (dk_at dksX5_measures_1 17 rfl rfl)
theorem dX5_measures_42 : decode cX5_measures 42 = .ok (.iload_n 2, 1) := dk_28 (dk_at dksX5_measures_1 18 rfl rfl)
theorem dX5_measures_43 : decode cX5_measures 43 = .ok (.invokevirtual 179, 3) := dk_182 0 179 (dk_at dksX5_measures_1 19 rfl rfl)
theorem dX5_measures_46 : decode cX5_measures 46 = .ok (.istore 7, 2) := dk_54 7 (dk_at dksX5_measures_1 22 rfl rfl)
theorem dX5_measures_48 : decode cX5_measures 48 = .ok (.iconst 0, 1) := dk_3 (dk_at dksX5_measures_2 0 rfl rfl)
theorem dX5_measures_49 : decode cX5_measures 49 = .ok (.istore 8, 2) := dk_54 8 (dk_at dksX5_measures_2 1 rfl rfl)
theorem dX5_measures_51 : decode cX5_measures 51 = .ok (.iload 7, 2) := dk_21 7 (dk_at dksX5_measures_2 3 rfl rfl)
theorem dX5_measures_53 : decode cX5_measures 53 = .ok (.iload 8, 2) := dk_21 8 (dk_at dksX5_measures_2 5 rfl rfl)
theorem dX5_measures_55 : decode cX5_measures 55 = .ok (.invokestatic 91, 3) := dk_184 0 91 (dk_at dksX5_measures_2 7 rfl rfl)
theorem dX5_measures_58 : decode cX5_measures 58 = .ok (.ifCond .ne 12, 3) := dk_154 0 12 (dk_at dksX5_measures_2 10 rfl rfl)
theorem dX5_measures_61 : decode cX5_measures 61 = .ok (.iload 8, 2) := dk_21 8 (dk_at dksX5_measures_2 13 rfl rfl)
theorem dX5_measures_63 : decode cX5_measures 63 = .ok (.iconst 1, 1) := dk_4 (dk_at dksX5_measures_2 15 rfl rfl)
theorem dX5_measures_64 : decode cX5_measures 64 = .ok (.iadd, 1) := dk_96 (dk_at dksX5_measures_2 16 rfl rfl)
theorem dX5_measures_65 : decode cX5_measures 65 = .ok (.istore 8, 2) := dk_54 8 (dk_at dksX5_measures_2 17 rfl rfl)
theorem dX5_measures_67 : decode cX5_measures 67 = .ok (.goto (-16), 3) := dk_167 255 240 (dk_at dksX5_measures_2 19 rfl rfl)
theorem dX5_measures_70 : decode cX5_measures 70 = .ok (.iload 8, 2) := dk_21 8 (dk_at dksX5_measures_2 22 rfl rfl)
theorem dX5_measures_72 : decode cX5_measures 72 = .ok (.iconst 1, 1) := dk_4 (dk_at dksX5_measures_3 0 rfl rfl)
theorem dX5_measures_73 : decode cX5_measures 73 = .ok (.iadd, 1) := dk_96 (dk_at dksX5_measures_3 1 rfl rfl)
theorem dX5_measures_74 : decode cX5_measures 74 = .ok (.istore 9, 2) := dk_54 9 (dk_at dksX5_measures_3 2 rfl rfl)
theorem dX5_measures_76 : decode cX5_measures 76 = .ok (.iload 9, 2) := dk_21 9 (dk_at dksX5_measures_3 4 rfl rfl)
theorem dX5_measures_78 : decode cX5_measures 78 = .ok (.aload_n 0, 1) := dk_42 (dk_at dksX5_measures_3 6 rfl rfl)
theorem dX5_measures_79 : decode cX5_measures 79 = .ok (.getfield 7, 3) := dk_180 0 7 (dk_at dksX5_measures_3 7 rfl rfl)
theorem dX5_measures_82 : decode cX5_measures 82 = .ok (.iconst 0, 1) := dk_3 (dk_at dksX5_measures_3 10 rfl rfl)
theorem dX5_measures_83 : decode cX5_measures 83 = .ok (.iaload, 1) := dk_46 (dk_at dksX5_measures_3 11 rfl rfl)
theorem dX5_measures_84 : decode cX5_measures 84 = .ok (.if_icmp .ge 27, 3) := dk_162 0 27 (dk_at dksX5_measures_3 12 rfl rfl)
theorem dX5_measures_87 : decode cX5_measures 87 = .ok (.iload 7, 2) := dk_21 7 (dk_at dksX5_measures_3 15 rfl rfl)
theorem dX5_measures_89 : decode cX5_measures 89 = .ok (.iload 9, 2) := dk_21 9 (dk_at dksX5_measures_3 17 rfl rfl)
theorem dX5_measures_91 : decode cX5_measures 91 = .ok (.invokestatic 91, 3) := dk_184 0 91 (dk_at dksX5_measures_3 19 rfl rfl)
theorem dX5_measures_94 : decode cX5_measures 94 = .ok (.ifCond .eq 11, 3) := dk_153 0 11 (dk_at dksX5_measures_4 0 rfl rfl)
theorem dX5_measures_97 : decode cX5_measures 97 = .ok (.aload_n 0, 1) := dk_42 (dk_at dksX5_measures_4 3 rfl rfl)
theorem dX5_measures_98 : decode cX5_measures 98 = .ok (.iload 9, 2) := dk_21 9 (dk_at dksX5_measures_4 4 rfl rfl)
theorem dX5_measures_100 : decode cX5_measures 100 = .ok (.iload 8, 2) := dk_21 8 (dk_at dksX5_measures_4 6 rfl rfl)
theorem dX5_measures_102 : decode cX5_measures 102 = .ok (.invokevirtual 199, 3) := dk_182 0 199 (dk_at dksX5_measures_4 8 rfl rfl)
theorem dX5_measures_105 : decode cX5_measures 105 = .ok (.iinc 9 1, 3) := dk_132 9 1 (dk_at dksX5_measures_4 11 rfl rfl)
theorem dX5_measures_108 : decode cX5_measures 108 = .ok (.goto (-32), 3) := dk_167 255 224 (dk_at dksX5_measures_4 14 rfl rfl)
theorem dX5_measures_111 : decode cX5_measures 111 = .ok (.aload_n 0, 1) := dk_42 (dk_at dksX5_measures_4 17 rfl rfl)
theorem dX5_measures_112 : decode cX5_measures 112 = .ok (.iload_n 1, 1) := dk_27 (dk_at dksX5_measures_4 18 rfl rfl)
theorem dX5_measures_113 : decode cX5_measures 113 = .ok (.iload_n 2, 1) := dk_28 (dk_at dksX5_measures_4 19 rfl rfl)
theorem dX5_measures_114 : decode cX5_measures 114 = .ok (.iload 6, 2) := dk_21 6 (dk_at dksX5_measures_4 20 rfl rfl)
theorem dX5_measures_116 : decode cX5_measures 116 = .ok (.iconst 1, 1) := dk_4 (dk_at dksX5_measures_4 22 rfl rfl)
theorem dX5_measures_117 : decode cX5_measures 117 = .ok (.if_icmp .ne 7, 3) := dk_160 0 7 (dk_at dksX5_measures_5 0 rfl rfl)
theorem dX5_measures_120 : decode cX5_measures 120 = .ok (.iload_n 3, 1) := dk_29 (dk_at dksX5_measures_5 3 rfl rfl)
theorem dX5_measures_121 : decode cX5_measures 121 = .ok (.goto 6, 3) := dk_167 0 6 (dk_at dksX5_measures_5 4 rfl rfl)
theorem dX5_measures_124 : decode cX5_measures 124 = .ok (.iconst 1, 1) := dk_4 (dk_at dksX5_measures_5 7 rfl rfl)
theorem dX5_measures_125 : decode cX5_measures 125 = .ok (.iload_n 3, 1) := dk_29 (dk_at dksX5_measures_5 8 rfl rfl)
theorem dX5_measures_126 : decode cX5_measures 126 = .ok (.isub, 1) := dk_100 (dk_at dksX5_measures_5 9 rfl rfl)
theorem dX5_measures_127 : decode cX5_measures 127 = .ok (.invokevirtual 112, 3) := dk_182 0 112 (dk_at dksX5_measures_5 10 rfl rfl)
theorem dX5_measures_130 : decode cX5_measures 130 = .ok (.aload_n 0, 1) := dk_42 (dk_at dksX5_measures_5 13 rfl rfl)
theorem dX5_measures_131 : decode cX5_measures 131 = .ok (.iload 8, 2) := dk_21 8 (dk_at dksX5_measures_5 14 rfl rfl)
theorem dX5_measures_133 : decode cX5_measures 133 = .ok (.invokevirtual 123, 3) := dk_182 0 123 (dk_at dksX5_measures_5 16 rfl rfl)
theorem dX5_measures_136 : decode cX5_measures 136 = .ok (.aload_n 0, 1) := dk_42 (dk_at dksX5_measures_5 19 rfl rfl)
theorem dX5_measures_137 : decode cX5_measures 137 = .ok (.iload 6, 2) := dk_21 6 (dk_at dksX5_measures_5 20 rfl rfl)
theorem dX5_measures_139 : decode cX5_measures 139 = .ok (.iconst 1, 1) := dk_4 (dk_at dksX5_measures_5 22 rfl rfl)
theorem dX5_measures_140 : decode cX5_measures 140 = .ok (.invokevirtual 192, 3) := dk_182 0 192 (dk_at dksX5_measures_6 0 rfl rfl)
theorem dX5_measures_143 : decode cX5_measures 143 = .ok (.iload 6, 2) := dk_21 6 (dk_at dksX5_measures_6 3 rfl rfl)
theorem dX5_measures_145 : decode cX5_measures 145 = .ok (.ireturn, 1) := dk_172 (dk_at dksX5_measures_6 5 rfl rfl)
abbrev cX5_records : ByteArray := prog_16_method_38_code
def yX5_records : MethodName := ⟨RX5, "records", "(IZ)V"⟩
def dkwX5_records_2 : List UInt8 := [180, 0, 7, 7, 46, 4, 96, 79, 42, 180, 0, 7, 8, 3, 79, 177]
abbrev dktX5_records_2 : List UInt8 := dkwX5_records_2 ++ []
def dkwX5_records_1 : List UInt8 := [180, 0, 7, 7, 46, 96, 28, 153, 0, 7, 4, 167, 0, 4, 3, 79, 42, 180, 0, 7, 7, 42]
abbrev dktX5_records_1 : List UInt8 := dkwX5_records_1 ++ dktX5_records_2
def dkwX5_records_0 : List UInt8 := [42, 180, 0, 7, 16, 30, 42, 180, 0, 7, 7, 46, 96, 27, 79, 42, 180, 0, 7, 17, 0, 130, 42]
abbrev dktX5_records_0 : List UInt8 := dkwX5_records_0 ++ dktX5_records_1
theorem dksX5_records_0 : cX5_records.data.toList.drop 0 = dktX5_records_0 := by decide +kernel
theorem dksX5_records_1 : cX5_records.data.toList.drop 23 = dktX5_records_1 := dk_seg dksX5_records_0 23 rfl rfl
theorem dksX5_records_2 : cX5_records.data.toList.drop 45 = dktX5_records_2 := dk_seg dksX5_records_1 22 rfl rfl
theorem dX5_records_0 : decode cX5_records 0 = .ok (.aload_n 0, 1) := dk_42 (dk_at dksX5_records_0 0 rfl rfl)
theorem dX5_records_1 : decode cX5_records 1 = .ok (.getfield 7, 3) := dk_180 0 7 (dk_at dksX5_records_0 1 rfl rfl)
theorem dX5_records_4 : decode cX5_records 4 = .ok (.bipush 30, 2) := dk_16 30 (dk_at dksX5_records_0 4 rfl rfl)
theorem dX5_records_6 : decode cX5_records 6 = .ok (.aload_n 0, 1) := dk_42 (dk_at dksX5_records_0 6 rfl rfl)
theorem dX5_records_7 : decode cX5_records 7 = .ok (.getfield 7, 3) := dk_180 0 7 (dk_at dksX5_records_0 7 rfl rfl)
theorem dX5_records_10 : decode cX5_records 10 = .ok (.iconst 4, 1) := dk_7 (dk_at dksX5_records_0 10 rfl rfl)
theorem dX5_records_11 : decode cX5_records 11 = .ok (.iaload, 1) := dk_46 (dk_at dksX5_records_0 11 rfl rfl)
theorem dX5_records_12 : decode cX5_records 12 = .ok (.iadd, 1) := dk_96 (dk_at dksX5_records_0 12 rfl rfl)
theorem dX5_records_13 : decode cX5_records 13 = .ok (.iload_n 1, 1) := dk_27 (dk_at dksX5_records_0 13 rfl rfl)
theorem dX5_records_14 : decode cX5_records 14 = .ok (.iastore, 1) := dk_79 (dk_at dksX5_records_0 14 rfl rfl)
theorem dX5_records_15 : decode cX5_records 15 = .ok (.aload_n 0, 1) := dk_42 (dk_at dksX5_records_0 15 rfl rfl)
theorem dX5_records_16 : decode cX5_records 16 = .ok (.getfield 7, 3) := dk_180 0 7 (dk_at dksX5_records_0 16 rfl rfl)
theorem dX5_records_19 : decode cX5_records 19 = .ok (.sipush 130, 3) := dk_17 0 130 (dk_at dksX5_records_0 19 rfl rfl)
theorem dX5_records_22 : decode cX5_records 22 = .ok (.aload_n 0, 1) := dk_42 (dk_at dksX5_records_0 22 rfl rfl)
theorem dX5_records_23 : decode cX5_records 23 = .ok (.getfield 7, 3) := dk_180 0 7 (dk_at dksX5_records_1 0 rfl rfl)
theorem dX5_records_26 : decode cX5_records 26 = .ok (.iconst 4, 1) := dk_7 (dk_at dksX5_records_1 3 rfl rfl)
theorem dX5_records_27 : decode cX5_records 27 = .ok (.iaload, 1) := dk_46 (dk_at dksX5_records_1 4 rfl rfl)
theorem dX5_records_28 : decode cX5_records 28 = .ok (.iadd, 1) := dk_96 (dk_at dksX5_records_1 5 rfl rfl)
theorem dX5_records_29 : decode cX5_records 29 = .ok (.iload_n 2, 1) := dk_28 (dk_at dksX5_records_1 6 rfl rfl)
theorem dX5_records_30 : decode cX5_records 30 = .ok (.ifCond .eq 7, 3) := dk_153 0 7 (dk_at dksX5_records_1 7 rfl rfl)
theorem dX5_records_33 : decode cX5_records 33 = .ok (.iconst 1, 1) := dk_4 (dk_at dksX5_records_1 10 rfl rfl)
theorem dX5_records_34 : decode cX5_records 34 = .ok (.goto 4, 3) := dk_167 0 4 (dk_at dksX5_records_1 11 rfl rfl)
theorem dX5_records_37 : decode cX5_records 37 = .ok (.iconst 0, 1) := dk_3 (dk_at dksX5_records_1 14 rfl rfl)
theorem dX5_records_38 : decode cX5_records 38 = .ok (.iastore, 1) := dk_79 (dk_at dksX5_records_1 15 rfl rfl)
theorem dX5_records_39 : decode cX5_records 39 = .ok (.aload_n 0, 1) := dk_42 (dk_at dksX5_records_1 16 rfl rfl)
theorem dX5_records_40 : decode cX5_records 40 = .ok (.getfield 7, 3) := dk_180 0 7 (dk_at dksX5_records_1 17 rfl rfl)
theorem dX5_records_43 : decode cX5_records 43 = .ok (.iconst 4, 1) := dk_7 (dk_at dksX5_records_1 20 rfl rfl)
theorem dX5_records_44 : decode cX5_records 44 = .ok (.aload_n 0, 1) := dk_42 (dk_at dksX5_records_1 21 rfl rfl)
theorem dX5_records_45 : decode cX5_records 45 = .ok (.getfield 7, 3) := dk_180 0 7 (dk_at dksX5_records_2 0 rfl rfl)
theorem dX5_records_48 : decode cX5_records 48 = .ok (.iconst 4, 1) := dk_7 (dk_at dksX5_records_2 3 rfl rfl)
theorem dX5_records_49 : decode cX5_records 49 = .ok (.iaload, 1) := dk_46 (dk_at dksX5_records_2 4 rfl rfl)
theorem dX5_records_50 : decode cX5_records 50 = .ok (.iconst 1, 1) := dk_4 (dk_at dksX5_records_2 5 rfl rfl)
theorem dX5_records_51 : decode cX5_records 51 = .ok (.iadd, 1) := dk_96 (dk_at dksX5_records_2 6 rfl rfl)
theorem dX5_records_52 : decode cX5_records 52 = .ok (.iastore, 1) := dk_79 (dk_at dksX5_records_2 7 rfl rfl)
theorem dX5_records_53 : decode cX5_records 53 = .ok (.aload_n 0, 1) := dk_42 (dk_at dksX5_records_2 8 rfl rfl)
theorem dX5_records_54 : decode cX5_records 54 = .ok (.getfield 7, 3) := dk_180 0 7 (dk_at dksX5_records_2 9 rfl rfl)
theorem dX5_records_57 : decode cX5_records 57 = .ok (.iconst 5, 1) := dk_8 (dk_at dksX5_records_2 12 rfl rfl)
theorem dX5_records_58 : decode cX5_records 58 = .ok (.iconst 0, 1) := dk_3 (dk_at dksX5_records_2 13 rfl rfl)
theorem dX5_records_59 : decode cX5_records 59 = .ok (.iastore, 1) := dk_79 (dk_at dksX5_records_2 14 rfl rfl)
theorem dX5_records_60 : decode cX5_records 60 = .ok (.return_, 1) := dk_177 (dk_at dksX5_records_2 15 rfl rfl)
abbrev cX5_draws : ByteArray := prog_16_method_37_code
def yX5_draws : MethodName := ⟨RX5, "draws", "()I"⟩
def dkwX5_draws_1 : List UInt8 := [180, 0, 7, 4, 46, 18, 188, 108, 5, 112, 154, 0, 7, 4, 167, 0, 4, 2, 172]
abbrev dktX5_draws_1 : List UInt8 := dkwX5_draws_1 ++ []
def dkwX5_draws_0 : List UInt8 := [42, 180, 0, 7, 4, 42, 180, 0, 7, 4, 46, 18, 186, 104, 17, 48, 57, 96, 18, 187, 126, 79, 42]
abbrev dktX5_draws_0 : List UInt8 := dkwX5_draws_0 ++ dktX5_draws_1
theorem dksX5_draws_0 : cX5_draws.data.toList.drop 0 = dktX5_draws_0 := by decide +kernel
theorem dksX5_draws_1 : cX5_draws.data.toList.drop 23 = dktX5_draws_1 := dk_seg dksX5_draws_0 23 rfl rfl
theorem dX5_draws_0 : decode cX5_draws 0 = .ok (.aload_n 0, 1) := dk_42 (dk_at dksX5_draws_0 0 rfl rfl)
theorem dX5_draws_1 : decode cX5_draws 1 = .ok (.getfield 7, 3) := dk_180 0 7 (dk_at dksX5_draws_0 1 rfl rfl)
theorem dX5_draws_4 : decode cX5_draws 4 = .ok (.iconst 1, 1) := dk_4 (dk_at dksX5_draws_0 4 rfl rfl)
theorem dX5_draws_5 : decode cX5_draws 5 = .ok (.aload_n 0, 1) := dk_42 (dk_at dksX5_draws_0 5 rfl rfl)
theorem dX5_draws_6 : decode cX5_draws 6 = .ok (.getfield 7, 3) := dk_180 0 7 (dk_at dksX5_draws_0 6 rfl rfl)
theorem dX5_draws_9 : decode cX5_draws 9 = .ok (.iconst 1, 1) := dk_4 (dk_at dksX5_draws_0 9 rfl rfl)
theorem dX5_draws_10 : decode cX5_draws 10 = .ok (.iaload, 1) := dk_46 (dk_at dksX5_draws_0 10 rfl rfl)
theorem dX5_draws_11 : decode cX5_draws 11 = .ok (.ldc 186, 2) := dk_18 186 (dk_at dksX5_draws_0 11 rfl rfl)
theorem dX5_draws_13 : decode cX5_draws 13 = .ok (.imul, 1) := dk_104 (dk_at dksX5_draws_0 13 rfl rfl)
theorem dX5_draws_14 : decode cX5_draws 14 = .ok (.sipush 12345, 3) := dk_17 48 57 (dk_at dksX5_draws_0 14 rfl rfl)
theorem dX5_draws_17 : decode cX5_draws 17 = .ok (.iadd, 1) := dk_96 (dk_at dksX5_draws_0 17 rfl rfl)
theorem dX5_draws_18 : decode cX5_draws 18 = .ok (.ldc 187, 2) := dk_18 187 (dk_at dksX5_draws_0 18 rfl rfl)
theorem dX5_draws_20 : decode cX5_draws 20 = .ok (.iand, 1) := dk_126 (dk_at dksX5_draws_0 20 rfl rfl)
theorem dX5_draws_21 : decode cX5_draws 21 = .ok (.iastore, 1) := dk_79 (dk_at dksX5_draws_0 21 rfl rfl)
theorem dX5_draws_22 : decode cX5_draws 22 = .ok (.aload_n 0, 1) := dk_42 (dk_at dksX5_draws_0 22 rfl rfl)
theorem dX5_draws_23 : decode cX5_draws 23 = .ok (.getfield 7, 3) := dk_180 0 7 (dk_at dksX5_draws_1 0 rfl rfl)
theorem dX5_draws_26 : decode cX5_draws 26 = .ok (.iconst 1, 1) := dk_4 (dk_at dksX5_draws_1 3 rfl rfl)
theorem dX5_draws_27 : decode cX5_draws 27 = .ok (.iaload, 1) := dk_46 (dk_at dksX5_draws_1 4 rfl rfl)
theorem dX5_draws_28 : decode cX5_draws 28 = .ok (.ldc 188, 2) := dk_18 188 (dk_at dksX5_draws_1 5 rfl rfl)
theorem dX5_draws_30 : decode cX5_draws 30 = .ok (.idiv, 1) := dk_108 (dk_at dksX5_draws_1 7 rfl rfl)
theorem dX5_draws_31 : decode cX5_draws 31 = .ok (.iconst 2, 1) := dk_5 (dk_at dksX5_draws_1 8 rfl rfl)
theorem dX5_draws_32 : decode cX5_draws 32 = .ok (.irem, 1) := dk_112 (dk_at dksX5_draws_1 9 rfl rfl)
theorem dX5_draws_33 : decode cX5_draws 33 = .ok (.ifCond .ne 7, 3) := dk_154 0 7 (dk_at dksX5_draws_1 10 rfl rfl)
theorem dX5_draws_36 : decode cX5_draws 36 = .ok (.iconst 1, 1) := dk_4 (dk_at dksX5_draws_1 13 rfl rfl)
theorem dX5_draws_37 : decode cX5_draws 37 = .ok (.goto 4, 3) := dk_167 0 4 (dk_at dksX5_draws_1 14 rfl rfl)
theorem dX5_draws_40 : decode cX5_draws 40 = .ok (.iconst (-1), 1) := dk_2 (dk_at dksX5_draws_1 17 rfl rfl)
theorem dX5_draws_41 : decode cX5_draws 41 = .ok (.ireturn, 1) := dk_172 (dk_at dksX5_draws_1 18 rfl rfl)
abbrev cX5_multiplies : ByteArray := prog_16_method_21_code
def yX5_multiplies : MethodName := ⟨RX5, "multiplies", "(II)V"⟩
def dkwX5_multiplies_1 : List UInt8 := [42, 180, 0, 7, 16, 22, 28, 96, 46, 182, 0, 120, 42, 27, 182, 0, 123, 177]
abbrev dktX5_multiplies_1 : List UInt8 := dkwX5_multiplies_1 ++ []
def dkwX5_multiplies_0 : List UInt8 := [42, 27, 182, 0, 116, 42, 42, 180, 0, 7, 16, 6, 28, 96, 46, 42, 180, 0, 7, 16, 14, 28, 96, 46]
abbrev dktX5_multiplies_0 : List UInt8 := dkwX5_multiplies_0 ++ dktX5_multiplies_1
theorem dksX5_multiplies_0 : cX5_multiplies.data.toList.drop 0 = dktX5_multiplies_0 := by decide +kernel
theorem dksX5_multiplies_1 : cX5_multiplies.data.toList.drop 24 = dktX5_multiplies_1 := dk_seg dksX5_multiplies_0 24 rfl rfl
theorem dX5_multiplies_0 : decode cX5_multiplies 0 = .ok (.aload_n 0, 1) := dk_42 (dk_at dksX5_multiplies_0 0 rfl rfl)
theorem dX5_multiplies_1 : decode cX5_multiplies 1 = .ok (.iload_n 1, 1) := dk_27 (dk_at dksX5_multiplies_0 1 rfl rfl)
theorem dX5_multiplies_2 : decode cX5_multiplies 2 = .ok (.invokevirtual 116, 3) := dk_182 0 116 (dk_at dksX5_multiplies_0 2 rfl rfl)
theorem dX5_multiplies_5 : decode cX5_multiplies 5 = .ok (.aload_n 0, 1) := dk_42 (dk_at dksX5_multiplies_0 5 rfl rfl)
theorem dX5_multiplies_6 : decode cX5_multiplies 6 = .ok (.aload_n 0, 1) := dk_42 (dk_at dksX5_multiplies_0 6 rfl rfl)
theorem dX5_multiplies_7 : decode cX5_multiplies 7 = .ok (.getfield 7, 3) := dk_180 0 7 (dk_at dksX5_multiplies_0 7 rfl rfl)
theorem dX5_multiplies_10 : decode cX5_multiplies 10 = .ok (.bipush 6, 2) := dk_16 6 (dk_at dksX5_multiplies_0 10 rfl rfl)
theorem dX5_multiplies_12 : decode cX5_multiplies 12 = .ok (.iload_n 2, 1) := dk_28 (dk_at dksX5_multiplies_0 12 rfl rfl)
theorem dX5_multiplies_13 : decode cX5_multiplies 13 = .ok (.iadd, 1) := dk_96 (dk_at dksX5_multiplies_0 13 rfl rfl)
theorem dX5_multiplies_14 : decode cX5_multiplies 14 = .ok (.iaload, 1) := dk_46 (dk_at dksX5_multiplies_0 14 rfl rfl)
theorem dX5_multiplies_15 : decode cX5_multiplies 15 = .ok (.aload_n 0, 1) := dk_42 (dk_at dksX5_multiplies_0 15 rfl rfl)
theorem dX5_multiplies_16 : decode cX5_multiplies 16 = .ok (.getfield 7, 3) := dk_180 0 7 (dk_at dksX5_multiplies_0 16 rfl rfl)
theorem dX5_multiplies_19 : decode cX5_multiplies 19 = .ok (.bipush 14, 2) := dk_16 14 (dk_at dksX5_multiplies_0 19 rfl rfl)
theorem dX5_multiplies_21 : decode cX5_multiplies 21 = .ok (.iload_n 2, 1) := dk_28 (dk_at dksX5_multiplies_0 21 rfl rfl)
theorem dX5_multiplies_22 : decode cX5_multiplies 22 = .ok (.iadd, 1) := dk_96 (dk_at dksX5_multiplies_0 22 rfl rfl)
theorem dX5_multiplies_23 : decode cX5_multiplies 23 = .ok (.iaload, 1) := dk_46 (dk_at dksX5_multiplies_0 23 rfl rfl)
theorem dX5_multiplies_24 : decode cX5_multiplies 24 = .ok (.aload_n 0, 1) := dk_42 (dk_at dksX5_multiplies_1 0 rfl rfl)
theorem dX5_multiplies_25 : decode cX5_multiplies 25 = .ok (.getfield 7, 3) := dk_180 0 7 (dk_at dksX5_multiplies_1 1 rfl rfl)
theorem dX5_multiplies_28 : decode cX5_multiplies 28 = .ok (.bipush 22, 2) := dk_16 22 (dk_at dksX5_multiplies_1 4 rfl rfl)
theorem dX5_multiplies_30 : decode cX5_multiplies 30 = .ok (.iload_n 2, 1) := dk_28 (dk_at dksX5_multiplies_1 6 rfl rfl)
theorem dX5_multiplies_31 : decode cX5_multiplies 31 = .ok (.iadd, 1) := dk_96 (dk_at dksX5_multiplies_1 7 rfl rfl)
theorem dX5_multiplies_32 : decode cX5_multiplies 32 = .ok (.iaload, 1) := dk_46 (dk_at dksX5_multiplies_1 8 rfl rfl)
theorem dX5_multiplies_33 : decode cX5_multiplies 33 = .ok (.invokevirtual 120, 3) := dk_182 0 120 (dk_at dksX5_multiplies_1 9 rfl rfl)
theorem dX5_multiplies_36 : decode cX5_multiplies 36 = .ok (.aload_n 0, 1) := dk_42 (dk_at dksX5_multiplies_1 12 rfl rfl)
theorem dX5_multiplies_37 : decode cX5_multiplies 37 = .ok (.iload_n 1, 1) := dk_27 (dk_at dksX5_multiplies_1 13 rfl rfl)
theorem dX5_multiplies_38 : decode cX5_multiplies 38 = .ok (.invokevirtual 123, 3) := dk_182 0 123 (dk_at dksX5_multiplies_1 14 rfl rfl)
theorem dX5_multiplies_41 : decode cX5_multiplies 41 = .ok (.return_, 1) := dk_177 (dk_at dksX5_multiplies_1 17 rfl rfl)
abbrev cX5_measureAll : ByteArray := prog_16_method_42_code
def yX5_measureAll : MethodName := ⟨RX5, "measureAll", "()I"⟩
def dkwX5_measureAll_3 : List UInt8 := [132, 2, 1, 167, 255, 223, 42, 182, 0, 160, 27, 172]
abbrev dktX5_measureAll_3 : List UInt8 := dkwX5_measureAll_3 ++ []
def dkwX5_measureAll_2 : List UInt8 := [162, 0, 29, 42, 3, 4, 28, 120, 3, 3, 182, 0, 210, 2, 160, 0, 9, 27, 4, 28, 120, 128, 60]
abbrev dktX5_measureAll_2 : List UInt8 := dkwX5_measureAll_2 ++ dktX5_measureAll_3
def dkwX5_measureAll_1 : List UInt8 := [182, 0, 87, 154, 0, 5, 3, 172, 42, 182, 0, 151, 3, 60, 3, 61, 28, 42, 180, 0, 7, 3, 46]
abbrev dktX5_measureAll_1 : List UInt8 := dkwX5_measureAll_1 ++ dktX5_measureAll_2
def dkwX5_measureAll_0 : List UInt8 := [42, 42, 180, 0, 7, 7, 46, 42, 180, 0, 7, 3, 46, 96, 16, 100, 163, 0, 7, 4, 167, 0, 4, 3]
abbrev dktX5_measureAll_0 : List UInt8 := dkwX5_measureAll_0 ++ dktX5_measureAll_1
theorem dksX5_measureAll_0 : cX5_measureAll.data.toList.drop 0 = dktX5_measureAll_0 := by decide +kernel
theorem dksX5_measureAll_1 : cX5_measureAll.data.toList.drop 24 = dktX5_measureAll_1 := dk_seg dksX5_measureAll_0 24 rfl rfl
theorem dksX5_measureAll_2 : cX5_measureAll.data.toList.drop 47 = dktX5_measureAll_2 := dk_seg dksX5_measureAll_1 23 rfl rfl
theorem dksX5_measureAll_3 : cX5_measureAll.data.toList.drop 70 = dktX5_measureAll_3 := dk_seg dksX5_measureAll_2 23 rfl rfl
theorem dX5_measureAll_0 : decode cX5_measureAll 0 = .ok (.aload_n 0, 1) := dk_42 (dk_at dksX5_measureAll_0 0 rfl rfl)
theorem dX5_measureAll_1 : decode cX5_measureAll 1 = .ok (.aload_n 0, 1) := dk_42 (dk_at dksX5_measureAll_0 1 rfl rfl)
theorem dX5_measureAll_2 : decode cX5_measureAll 2 = .ok (.getfield 7, 3) := dk_180 0 7 (dk_at dksX5_measureAll_0 2 rfl rfl)
theorem dX5_measureAll_5 : decode cX5_measureAll 5 = .ok (.iconst 4, 1) := dk_7 (dk_at dksX5_measureAll_0 5 rfl rfl)
theorem dX5_measureAll_6 : decode cX5_measureAll 6 = .ok (.iaload, 1) := dk_46 (dk_at dksX5_measureAll_0 6 rfl rfl)
theorem dX5_measureAll_7 : decode cX5_measureAll 7 = .ok (.aload_n 0, 1) := dk_42 (dk_at dksX5_measureAll_0 7 rfl rfl)
theorem dX5_measureAll_8 : decode cX5_measureAll 8 = .ok (.getfield 7, 3) := dk_180 0 7 (dk_at dksX5_measureAll_0 8 rfl rfl)
theorem dX5_measureAll_11 : decode cX5_measureAll 11 = .ok (.iconst 0, 1) := dk_3 (dk_at dksX5_measureAll_0 11 rfl rfl)
theorem dX5_measureAll_12 : decode cX5_measureAll 12 = .ok (.iaload, 1) := dk_46 (dk_at dksX5_measureAll_0 12 rfl rfl)
theorem dX5_measureAll_13 : decode cX5_measureAll 13 = .ok (.iadd, 1) := dk_96 (dk_at dksX5_measureAll_0 13 rfl rfl)
theorem dX5_measureAll_14 : decode cX5_measureAll 14 = .ok (.bipush 100, 2) := dk_16 100 (dk_at dksX5_measureAll_0 14 rfl rfl)
theorem dX5_measureAll_16 : decode cX5_measureAll 16 = .ok (.if_icmp .gt 7, 3) := dk_163 0 7 (dk_at dksX5_measureAll_0 16 rfl rfl)
theorem dX5_measureAll_19 : decode cX5_measureAll 19 = .ok (.iconst 1, 1) := dk_4 (dk_at dksX5_measureAll_0 19 rfl rfl)
theorem dX5_measureAll_20 : decode cX5_measureAll 20 = .ok (.goto 4, 3) := dk_167 0 4 (dk_at dksX5_measureAll_0 20 rfl rfl)
theorem dX5_measureAll_23 : decode cX5_measureAll 23 = .ok (.iconst 0, 1) := dk_3 (dk_at dksX5_measureAll_0 23 rfl rfl)
theorem dX5_measureAll_24 : decode cX5_measureAll 24 = .ok (.invokevirtual 87, 3) := dk_182 0 87 (dk_at dksX5_measureAll_1 0 rfl rfl)
theorem dX5_measureAll_27 : decode cX5_measureAll 27 = .ok (.ifCond .ne 5, 3) := dk_154 0 5 (dk_at dksX5_measureAll_1 3 rfl rfl)
theorem dX5_measureAll_30 : decode cX5_measureAll 30 = .ok (.iconst 0, 1) := dk_3 (dk_at dksX5_measureAll_1 6 rfl rfl)
theorem dX5_measureAll_31 : decode cX5_measureAll 31 = .ok (.ireturn, 1) := dk_172 (dk_at dksX5_measureAll_1 7 rfl rfl)
theorem dX5_measureAll_32 : decode cX5_measureAll 32 = .ok (.aload_n 0, 1) := dk_42 (dk_at dksX5_measureAll_1 8 rfl rfl)
theorem dX5_measureAll_33 : decode cX5_measureAll 33 = .ok (.invokevirtual 151, 3) := dk_182 0 151 (dk_at dksX5_measureAll_1 9 rfl rfl)
theorem dX5_measureAll_36 : decode cX5_measureAll 36 = .ok (.iconst 0, 1) := dk_3 (dk_at dksX5_measureAll_1 12 rfl rfl)
theorem dX5_measureAll_37 : decode cX5_measureAll 37 = .ok (.istore_n 1, 1) := dk_60 (dk_at dksX5_measureAll_1 13 rfl rfl)
theorem dX5_measureAll_38 : decode cX5_measureAll 38 = .ok (.iconst 0, 1) := dk_3 (dk_at dksX5_measureAll_1 14 rfl rfl)
theorem dX5_measureAll_39 : decode cX5_measureAll 39 = .ok (.istore_n 2, 1) := dk_61 (dk_at dksX5_measureAll_1 15 rfl rfl)
theorem dX5_measureAll_40 : decode cX5_measureAll 40 = .ok (.iload_n 2, 1) := dk_28 (dk_at dksX5_measureAll_1 16 rfl rfl)
theorem dX5_measureAll_41 : decode cX5_measureAll 41 = .ok (.aload_n 0, 1) := dk_42 (dk_at dksX5_measureAll_1 17 rfl rfl)
theorem dX5_measureAll_42 : decode cX5_measureAll 42 = .ok (.getfield 7, 3) := dk_180 0 7 (dk_at dksX5_measureAll_1 18 rfl rfl)
theorem dX5_measureAll_45 : decode cX5_measureAll 45 = .ok (.iconst 0, 1) := dk_3 (dk_at dksX5_measureAll_1 21 rfl rfl)
theorem dX5_measureAll_46 : decode cX5_measureAll 46 = .ok (.iaload, 1) := dk_46 (dk_at dksX5_measureAll_1 22 rfl rfl)
theorem dX5_measureAll_47 : decode cX5_measureAll 47 = .ok (.if_icmp .ge 29, 3) := dk_162 0 29 (dk_at dksX5_measureAll_2 0 rfl rfl)
theorem dX5_measureAll_50 : decode cX5_measureAll 50 = .ok (.aload_n 0, 1) := dk_42 (dk_at dksX5_measureAll_2 3 rfl rfl)
theorem dX5_measureAll_51 : decode cX5_measureAll 51 = .ok (.iconst 0, 1) := dk_3 (dk_at dksX5_measureAll_2 4 rfl rfl)
theorem dX5_measureAll_52 : decode cX5_measureAll 52 = .ok (.iconst 1, 1) := dk_4 (dk_at dksX5_measureAll_2 5 rfl rfl)
theorem dX5_measureAll_53 : decode cX5_measureAll 53 = .ok (.iload_n 2, 1) := dk_28 (dk_at dksX5_measureAll_2 6 rfl rfl)
theorem dX5_measureAll_54 : decode cX5_measureAll 54 = .ok (.ishl, 1) := dk_120 (dk_at dksX5_measureAll_2 7 rfl rfl)
theorem dX5_measureAll_55 : decode cX5_measureAll 55 = .ok (.iconst 0, 1) := dk_3 (dk_at dksX5_measureAll_2 8 rfl rfl)
theorem dX5_measureAll_56 : decode cX5_measureAll 56 = .ok (.iconst 0, 1) := dk_3 (dk_at dksX5_measureAll_2 9 rfl rfl)
theorem dX5_measureAll_57 : decode cX5_measureAll 57 = .ok (.invokevirtual 210, 3) := dk_182 0 210 (dk_at dksX5_measureAll_2 10 rfl rfl)
theorem dX5_measureAll_60 : decode cX5_measureAll 60 = .ok (.iconst (-1), 1) := dk_2 (dk_at dksX5_measureAll_2 13 rfl rfl)
theorem dX5_measureAll_61 : decode cX5_measureAll 61 = .ok (.if_icmp .ne 9, 3) := dk_160 0 9 (dk_at dksX5_measureAll_2 14 rfl rfl)
theorem dX5_measureAll_64 : decode cX5_measureAll 64 = .ok (.iload_n 1, 1) := dk_27 (dk_at dksX5_measureAll_2 17 rfl rfl)
theorem dX5_measureAll_65 : decode cX5_measureAll 65 = .ok (.iconst 1, 1) := dk_4 (dk_at dksX5_measureAll_2 18 rfl rfl)
theorem dX5_measureAll_66 : decode cX5_measureAll 66 = .ok (.iload_n 2, 1) := dk_28 (dk_at dksX5_measureAll_2 19 rfl rfl)
theorem dX5_measureAll_67 : decode cX5_measureAll 67 = .ok (.ishl, 1) := dk_120 (dk_at dksX5_measureAll_2 20 rfl rfl)
theorem dX5_measureAll_68 : decode cX5_measureAll 68 = .ok (.ior, 1) := dk_128 (dk_at dksX5_measureAll_2 21 rfl rfl)
theorem dX5_measureAll_69 : decode cX5_measureAll 69 = .ok (.istore_n 1, 1) := dk_60 (dk_at dksX5_measureAll_2 22 rfl rfl)
theorem dX5_measureAll_70 : decode cX5_measureAll 70 = .ok (.iinc 2 1, 3) := dk_132 2 1 (dk_at dksX5_measureAll_3 0 rfl rfl)
theorem dX5_measureAll_73 : decode cX5_measureAll 73 = .ok (.goto (-33), 3) := dk_167 255 223 (dk_at dksX5_measureAll_3 3 rfl rfl)
theorem dX5_measureAll_76 : decode cX5_measureAll 76 = .ok (.aload_n 0, 1) := dk_42 (dk_at dksX5_measureAll_3 6 rfl rfl)
theorem dX5_measureAll_77 : decode cX5_measureAll 77 = .ok (.invokevirtual 160, 3) := dk_182 0 160 (dk_at dksX5_measureAll_3 7 rfl rfl)
theorem dX5_measureAll_80 : decode cX5_measureAll 80 = .ok (.iload_n 1, 1) := dk_27 (dk_at dksX5_measureAll_3 10 rfl rfl)
theorem dX5_measureAll_81 : decode cX5_measureAll 81 = .ok (.ireturn, 1) := dk_172 (dk_at dksX5_measureAll_3 11 rfl rfl)
abbrev cX5_step : ByteArray := prog_16_method_44_code
def yX5_step : MethodName := ⟨RX5, "step", "()I"⟩
def dkwX5_step_1 : List UInt8 := [172]
abbrev dktX5_step_1 : List UInt8 := dkwX5_step_1 ++ []
def dkwX5_step_0 : List UInt8 := [42, 3, 181, 0, 80, 42, 182, 0, 151, 42, 182, 0, 216, 60, 27, 2, 159, 0, 7, 42, 182, 0, 160, 27]
abbrev dktX5_step_0 : List UInt8 := dkwX5_step_0 ++ dktX5_step_1
theorem dksX5_step_0 : cX5_step.data.toList.drop 0 = dktX5_step_0 := by decide +kernel
theorem dksX5_step_1 : cX5_step.data.toList.drop 24 = dktX5_step_1 := dk_seg dksX5_step_0 24 rfl rfl
theorem dX5_step_0 : decode cX5_step 0 = .ok (.aload_n 0, 1) := dk_42 (dk_at dksX5_step_0 0 rfl rfl)
theorem dX5_step_1 : decode cX5_step 1 = .ok (.iconst 0, 1) := dk_3 (dk_at dksX5_step_0 1 rfl rfl)
theorem dX5_step_2 : decode cX5_step 2 = .ok (.putfield 80, 3) := dk_181 0 80 (dk_at dksX5_step_0 2 rfl rfl)
theorem dX5_step_5 : decode cX5_step 5 = .ok (.aload_n 0, 1) := dk_42 (dk_at dksX5_step_0 5 rfl rfl)
theorem dX5_step_6 : decode cX5_step 6 = .ok (.invokevirtual 151, 3) := dk_182 0 151 (dk_at dksX5_step_0 6 rfl rfl)
theorem dX5_step_9 : decode cX5_step 9 = .ok (.aload_n 0, 1) := dk_42 (dk_at dksX5_step_0 9 rfl rfl)
theorem dX5_step_10 : decode cX5_step 10 = .ok (.invokevirtual 216, 3) := dk_182 0 216 (dk_at dksX5_step_0 10 rfl rfl)
theorem dX5_step_13 : decode cX5_step 13 = .ok (.istore_n 1, 1) := dk_60 (dk_at dksX5_step_0 13 rfl rfl)
theorem dX5_step_14 : decode cX5_step 14 = .ok (.iload_n 1, 1) := dk_27 (dk_at dksX5_step_0 14 rfl rfl)
theorem dX5_step_15 : decode cX5_step 15 = .ok (.iconst (-1), 1) := dk_2 (dk_at dksX5_step_0 15 rfl rfl)
theorem dX5_step_16 : decode cX5_step 16 = .ok (.if_icmp .eq 7, 3) := dk_159 0 7 (dk_at dksX5_step_0 16 rfl rfl)
theorem dX5_step_19 : decode cX5_step 19 = .ok (.aload_n 0, 1) := dk_42 (dk_at dksX5_step_0 19 rfl rfl)
theorem dX5_step_20 : decode cX5_step 20 = .ok (.invokevirtual 160, 3) := dk_182 0 160 (dk_at dksX5_step_0 20 rfl rfl)
theorem dX5_step_23 : decode cX5_step 23 = .ok (.iload_n 1, 1) := dk_27 (dk_at dksX5_step_0 23 rfl rfl)
theorem dX5_step_24 : decode cX5_step 24 = .ok (.ireturn, 1) := dk_172 (dk_at dksX5_step_1 0 rfl rfl)
abbrev cX5_steps : ByteArray := prog_16_method_43_code
def yX5_steps : MethodName := ⟨RX5, "steps", "()I"⟩
def dkwX5_steps_8 : List UInt8 := [180, 0, 22, 27, 46, 42, 180, 0, 25, 27, 46, 42, 180, 0, 28, 27, 46, 182, 0, 157, 4, 172]
abbrev dktX5_steps_8 : List UInt8 := dkwX5_steps_8 ++ []
def dkwX5_steps_7 : List UInt8 := [180, 0, 22, 27, 46, 42, 180, 0, 25, 27, 46, 42, 180, 0, 28, 27, 46, 182, 0, 154, 42, 42]
abbrev dktX5_steps_7 : List UInt8 := dkwX5_steps_7 ++ dktX5_steps_8
def dkwX5_steps_6 : List UInt8 := [180, 0, 7, 17, 1, 214, 42, 180, 0, 31, 27, 46, 96, 46, 4, 160, 0, 5, 3, 172, 42, 42]
abbrev dktX5_steps_6 : List UInt8 := dkwX5_steps_6 ++ dktX5_steps_7
def dkwX5_steps_5 : List UInt8 := [79, 4, 172, 42, 180, 0, 7, 5, 27, 4, 96, 79, 42, 180, 0, 31, 27, 46, 2, 159, 0, 24, 42]
abbrev dktX5_steps_5 : List UInt8 := dkwX5_steps_5 ++ dktX5_steps_6
def dkwX5_steps_4 : List UInt8 := [180, 0, 37, 27, 46, 28, 42, 180, 0, 43, 27, 46, 182, 0, 210, 79, 42, 180, 0, 7, 5, 27, 4, 96]
abbrev dktX5_steps_4 : List UInt8 := dkwX5_steps_4 ++ dktX5_steps_5
def dkwX5_steps_3 : List UInt8 := [2, 172, 42, 180, 0, 7, 17, 1, 214, 42, 180, 0, 46, 27, 46, 96, 42, 42, 180, 0, 34, 27, 46, 42]
abbrev dktX5_steps_3 : List UInt8 := dkwX5_steps_3 ++ dktX5_steps_4
def dkwX5_steps_2 : List UInt8 := [180, 0, 34, 27, 46, 42, 180, 0, 37, 27, 46, 28, 42, 180, 0, 43, 27, 46, 182, 0, 207, 154, 0, 5]
abbrev dktX5_steps_2 : List UInt8 := dkwX5_steps_2 ++ dktX5_steps_3
def dkwX5_steps_1 : List UInt8 := [16, 9, 160, 0, 96, 42, 180, 0, 40, 27, 46, 4, 160, 0, 7, 3, 167, 0, 4, 4, 61, 42, 42]
abbrev dktX5_steps_1 : List UInt8 := dkwX5_steps_1 ++ dktX5_steps_2
def dkwX5_steps_0 : List UInt8 := [42, 180, 0, 7, 5, 46, 60, 27, 42, 180, 0, 213, 160, 0, 5, 2, 172, 42, 180, 0, 22, 27, 46]
abbrev dktX5_steps_0 : List UInt8 := dkwX5_steps_0 ++ dktX5_steps_1
theorem dksX5_steps_0 : cX5_steps.data.toList.drop 0 = dktX5_steps_0 := by decide +kernel
theorem dksX5_steps_1 : cX5_steps.data.toList.drop 23 = dktX5_steps_1 := dk_seg dksX5_steps_0 23 rfl rfl
theorem dksX5_steps_2 : cX5_steps.data.toList.drop 46 = dktX5_steps_2 := dk_seg dksX5_steps_1 23 rfl rfl
theorem dksX5_steps_3 : cX5_steps.data.toList.drop 70 = dktX5_steps_3 := dk_seg dksX5_steps_2 24 rfl rfl
theorem dksX5_steps_4 : cX5_steps.data.toList.drop 94 = dktX5_steps_4 := dk_seg dksX5_steps_3 24 rfl rfl
theorem dksX5_steps_5 : cX5_steps.data.toList.drop 118 = dktX5_steps_5 := dk_seg dksX5_steps_4 24 rfl rfl
theorem dksX5_steps_6 : cX5_steps.data.toList.drop 141 = dktX5_steps_6 := dk_seg dksX5_steps_5 23 rfl rfl
theorem dksX5_steps_7 : cX5_steps.data.toList.drop 163 = dktX5_steps_7 := dk_seg dksX5_steps_6 22 rfl rfl
theorem dksX5_steps_8 : cX5_steps.data.toList.drop 185 = dktX5_steps_8 := dk_seg dksX5_steps_7 22 rfl rfl
theorem dX5_steps_0 : decode cX5_steps 0 = .ok (.aload_n 0, 1) := dk_42 (dk_at dksX5_steps_0 0 rfl rfl)
theorem dX5_steps_1 : decode cX5_steps 1 = .ok (.getfield 7, 3) := dk_180 0 7 (dk_at dksX5_steps_0 1 rfl rfl)
theorem dX5_steps_4 : decode cX5_steps 4 = .ok (.iconst 2, 1) := dk_5 (dk_at dksX5_steps_0 4 rfl rfl)
theorem dX5_steps_5 : decode cX5_steps 5 = .ok (.iaload, 1) := dk_46 (dk_at dksX5_steps_0 5 rfl rfl)
theorem dX5_steps_6 : decode cX5_steps 6 = .ok (.istore_n 1, 1) := dk_60 (dk_at dksX5_steps_0 6 rfl rfl)
theorem dX5_steps_7 : decode cX5_steps 7 = .ok (.iload_n 1, 1) := dk_27 (dk_at dksX5_steps_0 7 rfl rfl)
theorem dX5_steps_8 : decode cX5_steps 8 = .ok (.aload_n 0, 1) := dk_42 (dk_at dksX5_steps_0 8 rfl rfl)
theorem dX5_steps_9 : decode cX5_steps 9 = .ok (.getfield 213, 3) := dk_180 0 213 (dk_at dksX5_steps_0 9 rfl rfl)
theorem dX5_steps_12 : decode cX5_steps 12 = .ok (.if_icmp .ne 5, 3) := dk_160 0 5 (dk_at dksX5_steps_0 12 rfl rfl)
theorem dX5_steps_15 : decode cX5_steps 15 = .ok (.iconst (-1), 1) := dk_2 (dk_at dksX5_steps_0 15 rfl rfl)
theorem dX5_steps_16 : decode cX5_steps 16 = .ok (.ireturn, 1) := dk_172 (dk_at dksX5_steps_0 16 rfl rfl)
theorem dX5_steps_17 : decode cX5_steps 17 = .ok (.aload_n 0, 1) := dk_42 (dk_at dksX5_steps_0 17 rfl rfl)
theorem dX5_steps_18 : decode cX5_steps 18 = .ok (.getfield 22, 3) := dk_180 0 22 (dk_at dksX5_steps_0 18 rfl rfl)
theorem dX5_steps_21 : decode cX5_steps 21 = .ok (.iload_n 1, 1) := dk_27 (dk_at dksX5_steps_0 21 rfl rfl)
theorem dX5_steps_22 : decode cX5_steps 22 = .ok (.iaload, 1) := dk_46 (dk_at dksX5_steps_0 22 rfl rfl)
theorem dX5_steps_23 : decode cX5_steps 23 = .ok (.bipush 9, 2) := dk_16 9 (dk_at dksX5_steps_1 0 rfl rfl)
theorem dX5_steps_25 : decode cX5_steps 25 = .ok (.if_icmp .ne 96, 3) := dk_160 0 96 (dk_at dksX5_steps_1 2 rfl rfl)
theorem dX5_steps_28 : decode cX5_steps 28 = .ok (.aload_n 0, 1) := dk_42 (dk_at dksX5_steps_1 5 rfl rfl)
theorem dX5_steps_29 : decode cX5_steps 29 = .ok (.getfield 40, 3) := dk_180 0 40 (dk_at dksX5_steps_1 6 rfl rfl)
theorem dX5_steps_32 : decode cX5_steps 32 = .ok (.iload_n 1, 1) := dk_27 (dk_at dksX5_steps_1 9 rfl rfl)
theorem dX5_steps_33 : decode cX5_steps 33 = .ok (.iaload, 1) := dk_46 (dk_at dksX5_steps_1 10 rfl rfl)
theorem dX5_steps_34 : decode cX5_steps 34 = .ok (.iconst 1, 1) := dk_4 (dk_at dksX5_steps_1 11 rfl rfl)
theorem dX5_steps_35 : decode cX5_steps 35 = .ok (.if_icmp .ne 7, 3) := dk_160 0 7 (dk_at dksX5_steps_1 12 rfl rfl)
theorem dX5_steps_38 : decode cX5_steps 38 = .ok (.iconst 0, 1) := dk_3 (dk_at dksX5_steps_1 15 rfl rfl)
theorem dX5_steps_39 : decode cX5_steps 39 = .ok (.goto 4, 3) := dk_167 0 4 (dk_at dksX5_steps_1 16 rfl rfl)
theorem dX5_steps_42 : decode cX5_steps 42 = .ok (.iconst 1, 1) := dk_4 (dk_at dksX5_steps_1 19 rfl rfl)
theorem dX5_steps_43 : decode cX5_steps 43 = .ok (.istore_n 2, 1) := dk_61 (dk_at dksX5_steps_1 20 rfl rfl)
theorem dX5_steps_44 : decode cX5_steps 44 = .ok (.aload_n 0, 1) := dk_42 (dk_at dksX5_steps_1 21 rfl rfl)
theorem dX5_steps_45 : decode cX5_steps 45 = .ok (.aload_n 0, 1) := dk_42 (dk_at dksX5_steps_1 22 rfl rfl)
theorem dX5_steps_46 : decode cX5_steps 46 = .ok (.getfield 34, 3) := dk_180 0 34 (dk_at dksX5_steps_2 0 rfl rfl)
theorem dX5_steps_49 : decode cX5_steps 49 = .ok (.iload_n 1, 1) := dk_27 (dk_at dksX5_steps_2 3 rfl rfl)
theorem dX5_steps_50 : decode cX5_steps 50 = .ok (.iaload, 1) := dk_46 (dk_at dksX5_steps_2 4 rfl rfl)
theorem dX5_steps_51 : decode cX5_steps 51 = .ok (.aload_n 0, 1) := dk_42 (dk_at dksX5_steps_2 5 rfl rfl)
theorem dX5_steps_52 : decode cX5_steps 52 = .ok (.getfield 37, 3) := dk_180 0 37 (dk_at dksX5_steps_2 6 rfl rfl)
theorem dX5_steps_55 : decode cX5_steps 55 = .ok (.iload_n 1, 1) := dk_27 (dk_at dksX5_steps_2 9 rfl rfl)
theorem dX5_steps_56 : decode cX5_steps 56 = .ok (.iaload, 1) := dk_46 (dk_at dksX5_steps_2 10 rfl rfl)
theorem dX5_steps_57 : decode cX5_steps 57 = .ok (.iload_n 2, 1) := dk_28 (dk_at dksX5_steps_2 11 rfl rfl)
theorem dX5_steps_58 : decode cX5_steps 58 = .ok (.aload_n 0, 1) := dk_42 (dk_at dksX5_steps_2 12 rfl rfl)
theorem dX5_steps_59 : decode cX5_steps 59 = .ok (.getfield 43, 3) := dk_180 0 43 (dk_at dksX5_steps_2 13 rfl rfl)
theorem dX5_steps_62 : decode cX5_steps 62 = .ok (.iload_n 1, 1) := dk_27 (dk_at dksX5_steps_2 16 rfl rfl)
theorem dX5_steps_63 : decode cX5_steps 63 = .ok (.iaload, 1) := dk_46 (dk_at dksX5_steps_2 17 rfl rfl)
theorem dX5_steps_64 : decode cX5_steps 64 = .ok (.invokevirtual 207, 3) := dk_182 0 207 (dk_at dksX5_steps_2 18 rfl rfl)
theorem dX5_steps_67 : decode cX5_steps 67 = .ok (.ifCond .ne 5, 3) := dk_154 0 5 (dk_at dksX5_steps_2 21 rfl rfl)
theorem dX5_steps_70 : decode cX5_steps 70 = .ok (.iconst (-1), 1) := dk_2 (dk_at dksX5_steps_3 0 rfl rfl)
theorem dX5_steps_71 : decode cX5_steps 71 = .ok (.ireturn, 1) := dk_172 (dk_at dksX5_steps_3 1 rfl rfl)
theorem dX5_steps_72 : decode cX5_steps 72 = .ok (.aload_n 0, 1) := dk_42 (dk_at dksX5_steps_3 2 rfl rfl)
theorem dX5_steps_73 : decode cX5_steps 73 = .ok (.getfield 7, 3) := dk_180 0 7 (dk_at dksX5_steps_3 3 rfl rfl)
theorem dX5_steps_76 : decode cX5_steps 76 = .ok (.sipush 470, 3) := dk_17 1 214 (dk_at dksX5_steps_3 6 rfl rfl)
theorem dX5_steps_79 : decode cX5_steps 79 = .ok (.aload_n 0, 1) := dk_42 (dk_at dksX5_steps_3 9 rfl rfl)
theorem dX5_steps_80 : decode cX5_steps 80 = .ok (.getfield 46, 3) := dk_180 0 46 (dk_at dksX5_steps_3 10 rfl rfl)
theorem dX5_steps_83 : decode cX5_steps 83 = .ok (.iload_n 1, 1) := dk_27 (dk_at dksX5_steps_3 13 rfl rfl)
theorem dX5_steps_84 : decode cX5_steps 84 = .ok (.iaload, 1) := dk_46 (dk_at dksX5_steps_3 14 rfl rfl)
theorem dX5_steps_85 : decode cX5_steps 85 = .ok (.iadd, 1) := dk_96 (dk_at dksX5_steps_3 15 rfl rfl)
theorem dX5_steps_86 : decode cX5_steps 86 = .ok (.aload_n 0, 1) := dk_42 (dk_at dksX5_steps_3 16 rfl rfl)
theorem dX5_steps_87 : decode cX5_steps 87 = .ok (.aload_n 0, 1) := dk_42 (dk_at dksX5_steps_3 17 rfl rfl)
theorem dX5_steps_88 : decode cX5_steps 88 = .ok (.getfield 34, 3) := dk_180 0 34 (dk_at dksX5_steps_3 18 rfl rfl)
theorem dX5_steps_91 : decode cX5_steps 91 = .ok (.iload_n 1, 1) := dk_27 (dk_at dksX5_steps_3 21 rfl rfl)
theorem dX5_steps_92 : decode cX5_steps 92 = .ok (.iaload, 1) := dk_46 (dk_at dksX5_steps_3 22 rfl rfl)
theorem dX5_steps_93 : decode cX5_steps 93 = .ok (.aload_n 0, 1) := dk_42 (dk_at dksX5_steps_3 23 rfl rfl)
theorem dX5_steps_94 : decode cX5_steps 94 = .ok (.getfield 37, 3) := dk_180 0 37 (dk_at dksX5_steps_4 0 rfl rfl)
theorem dX5_steps_97 : decode cX5_steps 97 = .ok (.iload_n 1, 1) := dk_27 (dk_at dksX5_steps_4 3 rfl rfl)
theorem dX5_steps_98 : decode cX5_steps 98 = .ok (.iaload, 1) := dk_46 (dk_at dksX5_steps_4 4 rfl rfl)
theorem dX5_steps_99 : decode cX5_steps 99 = .ok (.iload_n 2, 1) := dk_28 (dk_at dksX5_steps_4 5 rfl rfl)
theorem dX5_steps_100 : decode cX5_steps 100 = .ok (.aload_n 0, 1) := dk_42 (dk_at dksX5_steps_4 6 rfl rfl)
theorem dX5_steps_101 : decode cX5_steps 101 = .ok (.getfield 43, 3) := dk_180 0 43 (dk_at dksX5_steps_4 7 rfl rfl)
theorem dX5_steps_104 : decode cX5_steps 104 = .ok (.iload_n 1, 1) := dk_27 (dk_at dksX5_steps_4 10 rfl rfl)
theorem dX5_steps_105 : decode cX5_steps 105 = .ok (.iaload, 1) := dk_46 (dk_at dksX5_steps_4 11 rfl rfl)
theorem dX5_steps_106 : decode cX5_steps 106 = .ok (.invokevirtual 210, 3) := dk_182 0 210 (dk_at dksX5_steps_4 12 rfl rfl)
theorem dX5_steps_109 : decode cX5_steps 109 = .ok (.iastore, 1) := dk_79 (dk_at dksX5_steps_4 15 rfl rfl)
theorem dX5_steps_110 : decode cX5_steps 110 = .ok (.aload_n 0, 1) := dk_42 (dk_at dksX5_steps_4 16 rfl rfl)
theorem dX5_steps_111 : decode cX5_steps 111 = .ok (.getfield 7, 3) := dk_180 0 7 (dk_at dksX5_steps_4 17 rfl rfl)
theorem dX5_steps_114 : decode cX5_steps 114 = .ok (.iconst 2, 1) := dk_5 (dk_at dksX5_steps_4 20 rfl rfl)
theorem dX5_steps_115 : decode cX5_steps 115 = .ok (.iload_n 1, 1) := dk_27 (dk_at dksX5_steps_4 21 rfl rfl)
theorem dX5_steps_116 : decode cX5_steps 116 = .ok (.iconst 1, 1) := dk_4 (dk_at dksX5_steps_4 22 rfl rfl)
theorem dX5_steps_117 : decode cX5_steps 117 = .ok (.iadd, 1) := dk_96 (dk_at dksX5_steps_4 23 rfl rfl)
theorem dX5_steps_118 : decode cX5_steps 118 = .ok (.iastore, 1) := dk_79 (dk_at dksX5_steps_5 0 rfl rfl)
theorem dX5_steps_119 : decode cX5_steps 119 = .ok (.iconst 1, 1) := dk_4 (dk_at dksX5_steps_5 1 rfl rfl)
theorem dX5_steps_120 : decode cX5_steps 120 = .ok (.ireturn, 1) := dk_172 (dk_at dksX5_steps_5 2 rfl rfl)
theorem dX5_steps_121 : decode cX5_steps 121 = .ok (.aload_n 0, 1) := dk_42 (dk_at dksX5_steps_5 3 rfl rfl)
theorem dX5_steps_122 : decode cX5_steps 122 = .ok (.getfield 7, 3) := dk_180 0 7 (dk_at dksX5_steps_5 4 rfl rfl)
theorem dX5_steps_125 : decode cX5_steps 125 = .ok (.iconst 2, 1) := dk_5 (dk_at dksX5_steps_5 7 rfl rfl)
theorem dX5_steps_126 : decode cX5_steps 126 = .ok (.iload_n 1, 1) := dk_27 (dk_at dksX5_steps_5 8 rfl rfl)
theorem dX5_steps_127 : decode cX5_steps 127 = .ok (.iconst 1, 1) := dk_4 (dk_at dksX5_steps_5 9 rfl rfl)
theorem dX5_steps_128 : decode cX5_steps 128 = .ok (.iadd, 1) := dk_96 (dk_at dksX5_steps_5 10 rfl rfl)
theorem dX5_steps_129 : decode cX5_steps 129 = .ok (.iastore, 1) := dk_79 (dk_at dksX5_steps_5 11 rfl rfl)
theorem dX5_steps_130 : decode cX5_steps 130 = .ok (.aload_n 0, 1) := dk_42 (dk_at dksX5_steps_5 12 rfl rfl)
theorem dX5_steps_131 : decode cX5_steps 131 = .ok (.getfield 31, 3) := dk_180 0 31 (dk_at dksX5_steps_5 13 rfl rfl)
theorem dX5_steps_134 : decode cX5_steps 134 = .ok (.iload_n 1, 1) := dk_27 (dk_at dksX5_steps_5 16 rfl rfl)
theorem dX5_steps_135 : decode cX5_steps 135 = .ok (.iaload, 1) := dk_46 (dk_at dksX5_steps_5 17 rfl rfl)
theorem dX5_steps_136 : decode cX5_steps 136 = .ok (.iconst (-1), 1) := dk_2 (dk_at dksX5_steps_5 18 rfl rfl)
theorem dX5_steps_137 : decode cX5_steps 137 = .ok (.if_icmp .eq 24, 3) := dk_159 0 24 (dk_at dksX5_steps_5 19 rfl rfl)
theorem dX5_steps_140 : decode cX5_steps 140 = .ok (.aload_n 0, 1) := dk_42 (dk_at dksX5_steps_5 22 rfl rfl)
theorem dX5_steps_141 : decode cX5_steps 141 = .ok (.getfield 7, 3) := dk_180 0 7 (dk_at dksX5_steps_6 0 rfl rfl)
theorem dX5_steps_144 : decode cX5_steps 144 = .ok (.sipush 470, 3) := dk_17 1 214 (dk_at dksX5_steps_6 3 rfl rfl)
theorem dX5_steps_147 : decode cX5_steps 147 = .ok (.aload_n 0, 1) := dk_42 (dk_at dksX5_steps_6 6 rfl rfl)
theorem dX5_steps_148 : decode cX5_steps 148 = .ok (.getfield 31, 3) := dk_180 0 31 (dk_at dksX5_steps_6 7 rfl rfl)
theorem dX5_steps_151 : decode cX5_steps 151 = .ok (.iload_n 1, 1) := dk_27 (dk_at dksX5_steps_6 10 rfl rfl)
theorem dX5_steps_152 : decode cX5_steps 152 = .ok (.iaload, 1) := dk_46 (dk_at dksX5_steps_6 11 rfl rfl)
theorem dX5_steps_153 : decode cX5_steps 153 = .ok (.iadd, 1) := dk_96 (dk_at dksX5_steps_6 12 rfl rfl)
theorem dX5_steps_154 : decode cX5_steps 154 = .ok (.iaload, 1) := dk_46 (dk_at dksX5_steps_6 13 rfl rfl)
theorem dX5_steps_155 : decode cX5_steps 155 = .ok (.iconst 1, 1) := dk_4 (dk_at dksX5_steps_6 14 rfl rfl)
theorem dX5_steps_156 : decode cX5_steps 156 = .ok (.if_icmp .ne 5, 3) := dk_160 0 5 (dk_at dksX5_steps_6 15 rfl rfl)
theorem dX5_steps_159 : decode cX5_steps 159 = .ok (.iconst 0, 1) := dk_3 (dk_at dksX5_steps_6 18 rfl rfl)
theorem dX5_steps_160 : decode cX5_steps 160 = .ok (.ireturn, 1) := dk_172 (dk_at dksX5_steps_6 19 rfl rfl)
theorem dX5_steps_161 : decode cX5_steps 161 = .ok (.aload_n 0, 1) := dk_42 (dk_at dksX5_steps_6 20 rfl rfl)
theorem dX5_steps_162 : decode cX5_steps 162 = .ok (.aload_n 0, 1) := dk_42 (dk_at dksX5_steps_6 21 rfl rfl)
theorem dX5_steps_163 : decode cX5_steps 163 = .ok (.getfield 22, 3) := dk_180 0 22 (dk_at dksX5_steps_7 0 rfl rfl)
theorem dX5_steps_166 : decode cX5_steps 166 = .ok (.iload_n 1, 1) := dk_27 (dk_at dksX5_steps_7 3 rfl rfl)
theorem dX5_steps_167 : decode cX5_steps 167 = .ok (.iaload, 1) := dk_46 (dk_at dksX5_steps_7 4 rfl rfl)
theorem dX5_steps_168 : decode cX5_steps 168 = .ok (.aload_n 0, 1) := dk_42 (dk_at dksX5_steps_7 5 rfl rfl)
theorem dX5_steps_169 : decode cX5_steps 169 = .ok (.getfield 25, 3) := dk_180 0 25 (dk_at dksX5_steps_7 6 rfl rfl)
theorem dX5_steps_172 : decode cX5_steps 172 = .ok (.iload_n 1, 1) := dk_27 (dk_at dksX5_steps_7 9 rfl rfl)
theorem dX5_steps_173 : decode cX5_steps 173 = .ok (.iaload, 1) := dk_46 (dk_at dksX5_steps_7 10 rfl rfl)
theorem dX5_steps_174 : decode cX5_steps 174 = .ok (.aload_n 0, 1) := dk_42 (dk_at dksX5_steps_7 11 rfl rfl)
theorem dX5_steps_175 : decode cX5_steps 175 = .ok (.getfield 28, 3) := dk_180 0 28 (dk_at dksX5_steps_7 12 rfl rfl)
theorem dX5_steps_178 : decode cX5_steps 178 = .ok (.iload_n 1, 1) := dk_27 (dk_at dksX5_steps_7 15 rfl rfl)
theorem dX5_steps_179 : decode cX5_steps 179 = .ok (.iaload, 1) := dk_46 (dk_at dksX5_steps_7 16 rfl rfl)
theorem dX5_steps_180 : decode cX5_steps 180 = .ok (.invokevirtual 154, 3) := dk_182 0 154 (dk_at dksX5_steps_7 17 rfl rfl)
theorem dX5_steps_183 : decode cX5_steps 183 = .ok (.aload_n 0, 1) := dk_42 (dk_at dksX5_steps_7 20 rfl rfl)
theorem dX5_steps_184 : decode cX5_steps 184 = .ok (.aload_n 0, 1) := dk_42 (dk_at dksX5_steps_7 21 rfl rfl)
theorem dX5_steps_185 : decode cX5_steps 185 = .ok (.getfield 22, 3) := dk_180 0 22 (dk_at dksX5_steps_8 0 rfl rfl)
theorem dX5_steps_188 : decode cX5_steps 188 = .ok (.iload_n 1, 1) := dk_27 (dk_at dksX5_steps_8 3 rfl rfl)
theorem dX5_steps_189 : decode cX5_steps 189 = .ok (.iaload, 1) := dk_46 (dk_at dksX5_steps_8 4 rfl rfl)
theorem dX5_steps_190 : decode cX5_steps 190 = .ok (.aload_n 0, 1) := dk_42 (dk_at dksX5_steps_8 5 rfl rfl)
theorem dX5_steps_191 : decode cX5_steps 191 = .ok (.getfield 25, 3) := dk_180 0 25 (dk_at dksX5_steps_8 6 rfl rfl)
theorem dX5_steps_194 : decode cX5_steps 194 = .ok (.iload_n 1, 1) := dk_27 (dk_at dksX5_steps_8 9 rfl rfl)
theorem dX5_steps_195 : decode cX5_steps 195 = .ok (.iaload, 1) := dk_46 (dk_at dksX5_steps_8 10 rfl rfl)
theorem dX5_steps_196 : decode cX5_steps 196 = .ok (.aload_n 0, 1) := dk_42 (dk_at dksX5_steps_8 11 rfl rfl)
theorem dX5_steps_197 : decode cX5_steps 197 = .ok (.getfield 28, 3) := dk_180 0 28 (dk_at dksX5_steps_8 12 rfl rfl)
theorem dX5_steps_200 : decode cX5_steps 200 = .ok (.iload_n 1, 1) := dk_27 (dk_at dksX5_steps_8 15 rfl rfl)
theorem dX5_steps_201 : decode cX5_steps 201 = .ok (.iaload, 1) := dk_46 (dk_at dksX5_steps_8 16 rfl rfl)
theorem dX5_steps_202 : decode cX5_steps 202 = .ok (.invokevirtual 157, 3) := dk_182 0 157 (dk_at dksX5_steps_8 17 rfl rfl)
theorem dX5_steps_205 : decode cX5_steps 205 = .ok (.iconst 1, 1) := dk_4 (dk_at dksX5_steps_8 20 rfl rfl)
theorem dX5_steps_206 : decode cX5_steps 206 = .ok (.ireturn, 1) := dk_172 (dk_at dksX5_steps_8 21 rfl rfl)
abbrev cX5_run : ByteArray := prog_16_method_46_code
def yX5_run : MethodName := ⟨RX5, "run", "(I)I"⟩
def dkwX5_run_1 : List UInt8 := [182, 0, 221, 61, 28, 158, 0, 7, 42, 182, 0, 160, 28, 172]
abbrev dktX5_run_1 : List UInt8 := dkwX5_run_1 ++ []
def dkwX5_run_0 : List UInt8 := [42, 27, 133, 10, 20, 0, 219, 184, 0, 135, 182, 0, 87, 154, 0, 5, 3, 172, 42, 182, 0, 151, 42, 27]
abbrev dktX5_run_0 : List UInt8 := dkwX5_run_0 ++ dktX5_run_1
theorem dksX5_run_0 : cX5_run.data.toList.drop 0 = dktX5_run_0 := by decide +kernel
theorem dksX5_run_1 : cX5_run.data.toList.drop 24 = dktX5_run_1 := dk_seg dksX5_run_0 24 rfl rfl
theorem dX5_run_0 : decode cX5_run 0 = .ok (.aload_n 0, 1) := dk_42 (dk_at dksX5_run_0 0 rfl rfl)
theorem dX5_run_1 : decode cX5_run 1 = .ok (.iload_n 1, 1) := dk_27 (dk_at dksX5_run_0 1 rfl rfl)
theorem dX5_run_2 : decode cX5_run 2 = .ok (.i2l, 1) := dk_133 (dk_at dksX5_run_0 2 rfl rfl)
theorem dX5_run_3 : decode cX5_run 3 = .ok (.lconst 1, 1) := dk_10 (dk_at dksX5_run_0 3 rfl rfl)
theorem dX5_run_4 : decode cX5_run 4 = .ok (.ldc2_w 219, 3) := dk_20 0 219 (dk_at dksX5_run_0 4 rfl rfl)
theorem dX5_run_7 : decode cX5_run 7 = .ok (.invokestatic 135, 3) := dk_184 0 135 (dk_at dksX5_run_0 7 rfl rfl)
theorem dX5_run_10 : decode cX5_run 10 = .ok (.invokevirtual 87, 3) := dk_182 0 87 (dk_at dksX5_run_0 10 rfl rfl)
theorem dX5_run_13 : decode cX5_run 13 = .ok (.ifCond .ne 5, 3) := dk_154 0 5 (dk_at dksX5_run_0 13 rfl rfl)
theorem dX5_run_16 : decode cX5_run 16 = .ok (.iconst 0, 1) := dk_3 (dk_at dksX5_run_0 16 rfl rfl)
theorem dX5_run_17 : decode cX5_run 17 = .ok (.ireturn, 1) := dk_172 (dk_at dksX5_run_0 17 rfl rfl)
theorem dX5_run_18 : decode cX5_run 18 = .ok (.aload_n 0, 1) := dk_42 (dk_at dksX5_run_0 18 rfl rfl)
theorem dX5_run_19 : decode cX5_run 19 = .ok (.invokevirtual 151, 3) := dk_182 0 151 (dk_at dksX5_run_0 19 rfl rfl)
theorem dX5_run_22 : decode cX5_run 22 = .ok (.aload_n 0, 1) := dk_42 (dk_at dksX5_run_0 22 rfl rfl)
theorem dX5_run_23 : decode cX5_run 23 = .ok (.iload_n 1, 1) := dk_27 (dk_at dksX5_run_0 23 rfl rfl)
theorem dX5_run_24 : decode cX5_run 24 = .ok (.invokevirtual 221, 3) := dk_182 0 221 (dk_at dksX5_run_1 0 rfl rfl)
theorem dX5_run_27 : decode cX5_run 27 = .ok (.istore_n 2, 1) := dk_61 (dk_at dksX5_run_1 3 rfl rfl)
theorem dX5_run_28 : decode cX5_run 28 = .ok (.iload_n 2, 1) := dk_28 (dk_at dksX5_run_1 4 rfl rfl)
theorem dX5_run_29 : decode cX5_run 29 = .ok (.ifCond .le 7, 3) := dk_158 0 7 (dk_at dksX5_run_1 5 rfl rfl)
theorem dX5_run_32 : decode cX5_run 32 = .ok (.aload_n 0, 1) := dk_42 (dk_at dksX5_run_1 8 rfl rfl)
theorem dX5_run_33 : decode cX5_run 33 = .ok (.invokevirtual 160, 3) := dk_182 0 160 (dk_at dksX5_run_1 9 rfl rfl)
theorem dX5_run_36 : decode cX5_run 36 = .ok (.iload_n 2, 1) := dk_28 (dk_at dksX5_run_1 12 rfl rfl)
theorem dX5_run_37 : decode cX5_run 37 = .ok (.ireturn, 1) := dk_172 (dk_at dksX5_run_1 13 rfl rfl)
abbrev cX5_runs : ByteArray := prog_16_method_45_code
def yX5_runs : MethodName := ⟨RX5, "runs", "(I)I"⟩
def dkwX5_runs_0 : List UInt8 := [3, 61, 28, 27, 162, 0, 18, 42, 182, 0, 216, 2, 159, 0, 10, 28, 4, 96, 61, 167, 255, 239, 28, 172]
abbrev dktX5_runs_0 : List UInt8 := dkwX5_runs_0 ++ []
theorem dksX5_runs_0 : cX5_runs.data.toList.drop 0 = dktX5_runs_0 := by decide +kernel
theorem dX5_runs_0 : decode cX5_runs 0 = .ok (.iconst 0, 1) := dk_3 (dk_at dksX5_runs_0 0 rfl rfl)
theorem dX5_runs_1 : decode cX5_runs 1 = .ok (.istore_n 2, 1) := dk_61 (dk_at dksX5_runs_0 1 rfl rfl)
theorem dX5_runs_2 : decode cX5_runs 2 = .ok (.iload_n 2, 1) := dk_28 (dk_at dksX5_runs_0 2 rfl rfl)
theorem dX5_runs_3 : decode cX5_runs 3 = .ok (.iload_n 1, 1) := dk_27 (dk_at dksX5_runs_0 3 rfl rfl)
theorem dX5_runs_4 : decode cX5_runs 4 = .ok (.if_icmp .ge 18, 3) := dk_162 0 18 (dk_at dksX5_runs_0 4 rfl rfl)
theorem dX5_runs_7 : decode cX5_runs 7 = .ok (.aload_n 0, 1) := dk_42 (dk_at dksX5_runs_0 7 rfl rfl)
theorem dX5_runs_8 : decode cX5_runs 8 = .ok (.invokevirtual 216, 3) := dk_182 0 216 (dk_at dksX5_runs_0 8 rfl rfl)
theorem dX5_runs_11 : decode cX5_runs 11 = .ok (.iconst (-1), 1) := dk_2 (dk_at dksX5_runs_0 11 rfl rfl)
theorem dX5_runs_12 : decode cX5_runs 12 = .ok (.if_icmp .eq 10, 3) := dk_159 0 10 (dk_at dksX5_runs_0 12 rfl rfl)
theorem dX5_runs_15 : decode cX5_runs 15 = .ok (.iload_n 2, 1) := dk_28 (dk_at dksX5_runs_0 15 rfl rfl)
theorem dX5_runs_16 : decode cX5_runs 16 = .ok (.iconst 1, 1) := dk_4 (dk_at dksX5_runs_0 16 rfl rfl)
theorem dX5_runs_17 : decode cX5_runs 17 = .ok (.iadd, 1) := dk_96 (dk_at dksX5_runs_0 17 rfl rfl)
theorem dX5_runs_18 : decode cX5_runs 18 = .ok (.istore_n 2, 1) := dk_61 (dk_at dksX5_runs_0 18 rfl rfl)
theorem dX5_runs_19 : decode cX5_runs 19 = .ok (.goto (-17), 3) := dk_167 255 239 (dk_at dksX5_runs_0 19 rfl rfl)
theorem dX5_runs_22 : decode cX5_runs 22 = .ok (.iload_n 2, 1) := dk_28 (dk_at dksX5_runs_0 22 rfl rfl)
theorem dX5_runs_23 : decode cX5_runs 23 = .ok (.ireturn, 1) := dk_172 (dk_at dksX5_runs_0 23 rfl rfl)
