/-! SortingLoopModel -/
set_option maxRecDepth 100000
def RX6 : String := "SortingLoopModel"
def TX6 : u_T := fun k => match k with
  | 0 => ("SortingLoopModel", "w", "[I", true)
  | 1 => ("SortingLoopModel", "wKept", "[I", true)
  | 2 => ("SortingLoopModel", "aside", "[I", true)
  | 3 => ("SortingLoopModel", "saved", "[I", true)
  | 4 => ("SortingLoopModel", "past", "[I", true)
  | 5 => ("SortingLoopModel", "pastMany", "I", false)
  | 6 => ("SortingLoopModel", "isSaved", "Z", false)
  | 7 => ("SortingLoopModel", "thrown", "I", false)
  | 8 => ("SortingLoopModel", "input", "[I", true)
  | 9 => ("SortingLoopModel", "inputMany", "I", false)
  | 10 => ("SortingLoopModel", "lastError", "I", false)
  | 11 => ("SortingLoopModel", "lastOffset", "I", false)
  | 12 => ("SortingLoopModel", "error", "I", false)
  | 13 => ("SortingLoopModel", "offset", "I", false)
  | 14 => ("SortingLoopModel", "nextByte", "I", false)
  | 15 => ("SortingLoopModel", "begin", "I", false)
  | 16 => ("SortingLoopModel", "value", "I", false)
  | 17 => ("SortingLoopModel", "token", "I", false)
  | 18 => ("SortingLoopModel", "got", "I", false)
  | 19 => ("SortingLoopModel", "n", "[I", true)
  | 20 => ("SortingLoopModel", "order", "[I", true)
  | 21 => ("SortingLoopModel", "firstOf", "[I", true)
  | 22 => ("SortingLoopModel", "secondOf", "[I", true)
  | 23 => ("SortingLoopModel", "orders", "I", false)
  | 24 => ("SortingLoopModel", "output", "[I", true)
  | _ => ("SortingLoopModel", "outputMany", "I", false)
def tyX6 : Nat → FieldType := fun k => match k with
  | 0 => .array .int
  | 1 => .array .int
  | 2 => .array .int
  | 3 => .array .int
  | 4 => .array .int
  | 5 => .int
  | 6 => .boolean
  | 7 => .int
  | 8 => .array .int
  | 9 => .int
  | 10 => .int
  | 11 => .int
  | 12 => .int
  | 13 => .int
  | 14 => .int
  | 15 => .int
  | 16 => .int
  | 17 => .int
  | 18 => .int
  | 19 => .array .int
  | 20 => .array .int
  | 21 => .array .int
  | 22 => .array .int
  | 23 => .int
  | 24 => .array .int
  | _ => .int
abbrev wsX60 : List Cond := u_ws RX6 TX6 26
set_option maxRecDepth 100000 in
theorem nmX6 : ∀ a, a < 26 → ∀ b, b < 26 → a ≠ b → (TX6 a).2.1 ≠ (TX6 b).2.1 := by decide +kernel
set_option maxRecDepth 100000 in
theorem tyX6_ok : ∀ k, k < 26 → parseFieldDescriptor (TX6 k).2.2.1 = some (tyX6 k) := by decide +kernel
abbrev cX6_init : ByteArray := prog_19_method_1_code
def yX6_init : MethodName := ⟨RX6, "<init>", "()V"⟩
def dkwX6_init_6 : List UInt8 := [42, 16, 9, 4, 3, 7, 182, 0, 51, 177]
abbrev dktX6_init_6 : List UInt8 := dkwX6_init_6 ++ []
def dkwX6_init_5 : List UInt8 := [42, 180, 0, 7, 5, 4, 79, 42, 7, 5, 4, 4, 182, 0, 51, 42, 16, 7, 6, 3, 3, 182, 0, 51]
abbrev dktX6_init_5 : List UInt8 := dkwX6_init_5 ++ dktX6_init_6
def dkwX6_init_4 : List UInt8 := [42, 17, 1, 144, 188, 10, 181, 0, 44, 42, 16, 12, 3, 182, 0, 47, 42, 180, 0, 7, 16, 19, 5, 79]
abbrev dktX6_init_4 : List UInt8 := dkwX6_init_4 ++ dktX6_init_5
def dkwX6_init_3 : List UInt8 := [42, 16, 31, 188, 10, 181, 0, 35, 42, 16, 31, 188, 10, 181, 0, 38, 42, 16, 31, 188, 10, 181, 0, 41]
abbrev dktX6_init_3 : List UInt8 := dkwX6_init_3 ++ dktX6_init_4
def dkwX6_init_2 : List UInt8 := [181, 0, 22, 42, 17, 2, 88, 188, 10, 181, 0, 25, 42, 2, 181, 0, 28, 42, 7, 188, 10, 181, 0, 32]
abbrev dktX6_init_2 : List UInt8 := dkwX6_init_2 ++ dktX6_init_3
def dkwX6_init_1 : List UInt8 := [17, 2, 13, 188, 10, 181, 0, 16, 42, 17, 2, 13, 188, 10, 181, 0, 19, 42, 17, 16, 104, 188, 10]
abbrev dktX6_init_1 : List UInt8 := dkwX6_init_1 ++ dktX6_init_2
def dkwX6_init_0 : List UInt8 := [42, 183, 0, 1, 42, 17, 2, 13, 188, 10, 181, 0, 7, 42, 17, 2, 13, 188, 10, 181, 0, 13, 42]
abbrev dktX6_init_0 : List UInt8 := dkwX6_init_0 ++ dktX6_init_1
theorem dksX6_init_0 : cX6_init.data.toList.drop 0 = dktX6_init_0 := by decide +kernel
theorem dksX6_init_1 : cX6_init.data.toList.drop 23 = dktX6_init_1 := dk_seg dksX6_init_0 23 rfl rfl
theorem dksX6_init_2 : cX6_init.data.toList.drop 46 = dktX6_init_2 := dk_seg dksX6_init_1 23 rfl rfl
theorem dksX6_init_3 : cX6_init.data.toList.drop 70 = dktX6_init_3 := dk_seg dksX6_init_2 24 rfl rfl
theorem dksX6_init_4 : cX6_init.data.toList.drop 94 = dktX6_init_4 := dk_seg dksX6_init_3 24 rfl rfl
theorem dksX6_init_5 : cX6_init.data.toList.drop 118 = dktX6_init_5 := dk_seg dksX6_init_4 24 rfl rfl
theorem dksX6_init_6 : cX6_init.data.toList.drop 142 = dktX6_init_6 := dk_seg dksX6_init_5 24 rfl rfl
theorem dX6_init_0 : decode cX6_init 0 = .ok (.aload_n 0, 1) := dk_42 (dk_at dksX6_init_0 0 rfl rfl)
theorem dX6_init_1 : decode cX6_init 1 = .ok (.invokespecial 1, 3) := dk_183 0 1 (dk_at dksX6_init_0 1 rfl rfl)
theorem dX6_init_4 : decode cX6_init 4 = .ok (.aload_n 0, 1) := dk_42 (dk_at dksX6_init_0 4 rfl rfl)
theorem dX6_init_5 : decode cX6_init 5 = .ok (.sipush 525, 3) := dk_17 2 13 (dk_at dksX6_init_0 5 rfl rfl)
theorem dX6_init_8 : decode cX6_init 8 = .ok (.newarray .int, 2) := dk_188_10 (dk_at dksX6_init_0 8 rfl rfl)
theorem dX6_init_10 : decode cX6_init 10 = .ok (.putfield 7, 3) := dk_181 0 7 (dk_at dksX6_init_0 10 rfl rfl)
theorem dX6_init_13 : decode cX6_init 13 = .ok (.aload_n 0, 1) := dk_42 (dk_at dksX6_init_0 13 rfl rfl)
theorem dX6_init_14 : decode cX6_init 14 = .ok (.sipush 525, 3) := dk_17 2 13 (dk_at dksX6_init_0 14 rfl rfl)
theorem dX6_init_17 : decode cX6_init 17 = .ok (.newarray .int, 2) := dk_188_10 (dk_at dksX6_init_0 17 rfl rfl)
theorem dX6_init_19 : decode cX6_init 19 = .ok (.putfield 13, 3) := dk_181 0 13 (dk_at dksX6_init_0 19 rfl rfl)
theorem dX6_init_22 : decode cX6_init 22 = .ok (.aload_n 0, 1) := dk_42 (dk_at dksX6_init_0 22 rfl rfl)
theorem dX6_init_23 : decode cX6_init 23 = .ok (.sipush 525, 3) := dk_17 2 13 (dk_at dksX6_init_1 0 rfl rfl)
theorem dX6_init_26 : decode cX6_init 26 = .ok (.newarray .int, 2) := dk_188_10 (dk_at dksX6_init_1 3 rfl rfl)
theorem dX6_init_28 : decode cX6_init 28 = .ok (.putfield 16, 3) := dk_181 0 16 (dk_at dksX6_init_1 5 rfl rfl)
theorem dX6_init_31 : decode cX6_init 31 = .ok (.aload_n 0, 1) := dk_42 (dk_at dksX6_init_1 8 rfl rfl)
theorem dX6_init_32 : decode cX6_init 32 = .ok (.sipush 525, 3) := dk_17 2 13 (dk_at dksX6_init_1 9 rfl rfl)
theorem dX6_init_35 : decode cX6_init 35 = .ok (.newarray .int, 2) := dk_188_10 (dk_at dksX6_init_1 12 rfl rfl)
theorem dX6_init_37 : decode cX6_init 37 = .ok (.putfield 19, 3) := dk_181 0 19 (dk_at dksX6_init_1 14 rfl rfl)
theorem dX6_init_40 : decode cX6_init 40 = .ok (.aload_n 0, 1) := dk_42 (dk_at dksX6_init_1 17 rfl rfl)
theorem dX6_init_41 : decode cX6_init 41 = .ok (.sipush 4200, 3) := dk_17 16 104 (dk_at dksX6_init_1 18 rfl rfl)
theorem dX6_init_44 : decode cX6_init 44 = .ok (.newarray .int, 2) := dk_188_10 (dk_at dksX6_init_1 21 rfl rfl)
theorem dX6_init_46 : decode cX6_init 46 = .ok (.putfield 22, 3) := dk_181 0 22 (dk_at dksX6_init_2 0 rfl rfl)
theorem dX6_init_49 : decode cX6_init 49 = .ok (.aload_n 0, 1) := dk_42 (dk_at dksX6_init_2 3 rfl rfl)
theorem dX6_init_50 : decode cX6_init 50 = .ok (.sipush 600, 3) := dk_17 2 88 (dk_at dksX6_init_2 4 rfl rfl)
theorem dX6_init_53 : decode cX6_init 53 = .ok (.newarray .int, 2) := dk_188_10 (dk_at dksX6_init_2 7 rfl rfl)
theorem dX6_init_55 : decode cX6_init 55 = .ok (.putfield 25, 3) := dk_181 0 25 (dk_at dksX6_init_2 9 rfl rfl)
theorem dX6_init_58 : decode cX6_init 58 = .ok (.aload_n 0, 1) := dk_42 (dk_at dksX6_init_2 12 rfl rfl)
theorem dX6_init_59 : decode cX6_init 59 = .ok (.iconst (-1), 1) := dk_2 (dk_at dksX6_init_2 13 rfl rfl)
theorem dX6_init_60 : decode cX6_init 60 = .ok (.putfield 28, 3) := dk_181 0 28 (dk_at dksX6_init_2 14 rfl rfl)
theorem dX6_init_63 : decode cX6_init 63 = .ok (.aload_n 0, 1) := dk_42 (dk_at dksX6_init_2 17 rfl rfl)
theorem dX6_init_64 : decode cX6_init 64 = .ok (.iconst 4, 1) := dk_7 (dk_at dksX6_init_2 18 rfl rfl)
theorem dX6_init_65 : decode cX6_init 65 = .ok (.newarray .int, 2) := dk_188_10 (dk_at dksX6_init_2 19 rfl rfl)
theorem dX6_init_67 : decode cX6_init 67 = .ok (.putfield 32, 3) := dk_181 0 32 (dk_at dksX6_init_2 21 rfl rfl)
theorem dX6_init_70 : decode cX6_init 70 = .ok (.aload_n 0, 1) := dk_42 (dk_at dksX6_init_3 0 rfl rfl)
theorem dX6_init_71 : decode cX6_init 71 = .ok (.bipush 31, 2) := dk_16 31 (dk_at dksX6_init_3 1 rfl rfl)
theorem dX6_init_73 : decode cX6_init 73 = .ok (.newarray .int, 2) := dk_188_10 (dk_at dksX6_init_3 3 rfl rfl)
theorem dX6_init_75 : decode cX6_init 75 = .ok (.putfield 35, 3) := dk_181 0 35 (dk_at dksX6_init_3 5 rfl rfl)
theorem dX6_init_78 : decode cX6_init 78 = .ok (.aload_n 0, 1) := dk_42 (dk_at dksX6_init_3 8 rfl rfl)
theorem dX6_init_79 : decode cX6_init 79 = .ok (.bipush 31, 2) := dk_16 31 (dk_at dksX6_init_3 9 rfl rfl)
theorem dX6_init_81 : decode cX6_init 81 = .ok (.newarray .int, 2) := dk_188_10 (dk_at dksX6_init_3 11 rfl rfl)
theorem dX6_init_83 : decode cX6_init 83 = .ok (.putfield 38, 3) := dk_181 0 38 (dk_at dksX6_init_3 13 rfl rfl)
theorem dX6_init_86 : decode cX6_init 86 = .ok (.aload_n 0, 1) := dk_42 (dk_at dksX6_init_3 16 rfl rfl)
theorem dX6_init_87 : decode cX6_init 87 = .ok (.bipush 31, 2) := dk_16 31 (dk_at dksX6_init_3 17 rfl rfl)
theorem dX6_init_89 : decode cX6_init 89 = .ok (.newarray .int, 2) := dk_188_10 (dk_at dksX6_init_3 19 rfl rfl)
theorem dX6_init_91 : decode cX6_init 91 = .ok (.putfield 41, 3) := dk_181 0 41 (dk_at dksX6_init_3 21 rfl rfl)
theorem dX6_init_94 : decode cX6_init 94 = .ok (.aload_n 0, 1) := dk_42 (dk_at dksX6_init_4 0 rfl rfl)
theorem dX6_init_95 : decode cX6_init 95 = .ok (.sipush 400, 3) := dk_17 1 144 (dk_at dksX6_init_4 1 rfl rfl)
theorem dX6_init_98 : decode cX6_init 98 = .ok (.newarray .int, 2) := dk_188_10 (dk_at dksX6_init_4 4 rfl rfl)
theorem dX6_init_100 : decode cX6_init 100 = .ok (.putfield 44, 3) := dk_181 0 44 (dk_at dksX6_init_4 6 rfl rfl)
theorem dX6_init_103 : decode cX6_init 103 = .ok (.aload_n 0, 1) := dk_42 (dk_at dksX6_init_4 9 rfl rfl)
theorem dX6_init_104 : decode cX6_init 104 = .ok (.bipush 12, 2) := dk_16 12 (dk_at dksX6_init_4 10 rfl rfl)
theorem dX6_init_106 : decode cX6_init 106 = .ok (.iconst 0, 1) := dk_3 (dk_at dksX6_init_4 12 rfl rfl)
theorem dX6_init_107 : decode cX6_init 107 = .ok (.invokevirtual 47, 3) := dk_182 0 47 (dk_at dksX6_init_4 13 rfl rfl)
theorem dX6_init_110 : decode cX6_init 110 = .ok (.aload_n 0, 1) := dk_42 (dk_at dksX6_init_4 16 rfl rfl)
theorem dX6_init_111 : decode cX6_init 111 = .ok (.getfield 7, 3) := dk_180 0 7 (dk_at dksX6_init_4 17 rfl rfl)
theorem dX6_init_114 : decode cX6_init 114 = .ok (.bipush 19, 2) := dk_16 19 (dk_at dksX6_init_4 20 rfl rfl)
theorem dX6_init_116 : decode cX6_init 116 = .ok (.iconst 2, 1) := dk_5 (dk_at dksX6_init_4 22 rfl rfl)
theorem dX6_init_117 : decode cX6_init 117 = .ok (.iastore, 1) := dk_79 (dk_at dksX6_init_4 23 rfl rfl)
theorem dX6_init_118 : decode cX6_init 118 = .ok (.aload_n 0, 1) := dk_42 (dk_at dksX6_init_5 0 rfl rfl)
theorem dX6_init_119 : decode cX6_init 119 = .ok (.getfield 7, 3) := dk_180 0 7 (dk_at dksX6_init_5 1 rfl rfl)
theorem dX6_init_122 : decode cX6_init 122 = .ok (.iconst 2, 1) := dk_5 (dk_at dksX6_init_5 4 rfl rfl)
theorem dX6_init_123 : decode cX6_init 123 = .ok (.iconst 1, 1) := dk_4 (dk_at dksX6_init_5 5 rfl rfl)
theorem dX6_init_124 : decode cX6_init 124 = .ok (.iastore, 1) := dk_79 (dk_at dksX6_init_5 6 rfl rfl)
theorem dX6_init_125 : decode cX6_init 125 = .ok (.aload_n 0, 1) := dk_42 (dk_at dksX6_init_5 7 rfl rfl)
theorem dX6_init_126 : decode cX6_init 126 = .ok (.iconst 4, 1) := dk_7 (dk_at dksX6_init_5 8 rfl rfl)
theorem dX6_init_127 : decode cX6_init 127 = .ok (.iconst 2, 1) := dk_5 (dk_at dksX6_init_5 9 rfl rfl)
theorem dX6_init_128 : decode cX6_init 128 = .ok (.iconst 1, 1) := dk_4 (dk_at dksX6_init_5 10 rfl rfl)
theorem dX6_init_129 : decode cX6_init 129 = .ok (.iconst 1, 1) := dk_4 (dk_at dksX6_init_5 11 rfl rfl)
theorem dX6_init_130 : decode cX6_init 130 = .ok (.invokevirtual 51, 3) := dk_182 0 51 (dk_at dksX6_init_5 12 rfl rfl)
theorem dX6_init_133 : decode cX6_init 133 = .ok (.aload_n 0, 1) := dk_42 (dk_at dksX6_init_5 15 rfl rfl)
theorem dX6_init_134 : decode cX6_init 134 = .ok (.bipush 7, 2) := dk_16 7 (dk_at dksX6_init_5 16 rfl rfl)
theorem dX6_init_136 : decode cX6_init 136 = .ok (.iconst 3, 1) := dk_6 (dk_at dksX6_init_5 18 rfl rfl)
theorem dX6_init_137 : decode cX6_init 137 = .ok (.iconst 0, 1) := dk_3 (dk_at dksX6_init_5 19 rfl rfl)
theorem dX6_init_138 : decode cX6_init 138 = .ok (.iconst 0, 1) := dk_3 (dk_at dksX6_init_5 20 rfl rfl)
theorem dX6_init_139 : decode cX6_init 139 = .ok (.invokevirtual 51, 3) := dk_182 0 51 (dk_at dksX6_init_5 21 rfl rfl)
theorem dX6_init_142 : decode cX6_init 142 = .ok (.aload_n 0, 1) := dk_42 (dk_at dksX6_init_6 0 rfl rfl)
theorem dX6_init_143 : decode cX6_init 143 = .ok (.bipush 9, 2) := dk_16 9 (dk_at dksX6_init_6 1 rfl rfl)
theorem dX6_init_145 : decode cX6_init 145 = .ok (.iconst 1, 1) := dk_4 (dk_at dksX6_init_6 3 rfl rfl)
theorem dX6_init_146 : decode cX6_init 146 = .ok (.iconst 0, 1) := dk_3 (dk_at dksX6_init_6 4 rfl rfl)
theorem dX6_init_147 : decode cX6_init 147 = .ok (.iconst 4, 1) := dk_7 (dk_at dksX6_init_6 5 rfl rfl)
theorem dX6_init_148 : decode cX6_init 148 = .ok (.invokevirtual 51, 3) := dk_182 0 51 (dk_at dksX6_init_6 6 rfl rfl)
theorem dX6_init_151 : decode cX6_init 151 = .ok (.return_, 1) := dk_177 (dk_at dksX6_init_6 9 rfl rfl)
abbrev cX6_begins : ByteArray := prog_19_method_8_code
def yX6_begins : MethodName := ⟨RX6, "begins", "(II)V"⟩
def dkwX6_begins_1 : List UInt8 := [180, 0, 7, 3, 27, 79, 42, 180, 0, 7, 4, 28, 79, 42, 180, 0, 7, 16, 6, 6, 79, 177]
abbrev dktX6_begins_1 : List UInt8 := dkwX6_begins_1 ++ []
def dkwX6_begins_0 : List UInt8 := [3, 62, 29, 17, 2, 13, 162, 0, 16, 42, 180, 0, 7, 29, 3, 79, 132, 3, 1, 167, 255, 239, 42]
abbrev dktX6_begins_0 : List UInt8 := dkwX6_begins_0 ++ dktX6_begins_1
theorem dksX6_begins_0 : cX6_begins.data.toList.drop 0 = dktX6_begins_0 := by decide +kernel
theorem dksX6_begins_1 : cX6_begins.data.toList.drop 23 = dktX6_begins_1 := dk_seg dksX6_begins_0 23 rfl rfl
theorem dX6_begins_0 : decode cX6_begins 0 = .ok (.iconst 0, 1) := dk_3 (dk_at dksX6_begins_0 0 rfl rfl)
theorem dX6_begins_1 : decode cX6_begins 1 = .ok (.istore_n 3, 1) := dk_62 (dk_at dksX6_begins_0 1 rfl rfl)
theorem dX6_begins_2 : decode cX6_begins 2 = .ok (.iload_n 3, 1) := dk_29 (dk_at dksX6_begins_0 2 rfl rfl)
theorem dX6_begins_3 : decode cX6_begins 3 = .ok (.sipush 525, 3) := dk_17 2 13 (dk_at dksX6_begins_0 3 rfl rfl)
theorem dX6_begins_6 : decode cX6_begins 6 = .ok (.if_icmp .ge 16, 3) := dk_162 0 16 (dk_at dksX6_begins_0 6 rfl rfl)
theorem dX6_begins_9 : decode cX6_begins 9 = .ok (.aload_n 0, 1) := dk_42 (dk_at dksX6_begins_0 9 rfl rfl)
theorem dX6_begins_10 : decode cX6_begins 10 = .ok (.getfield 7, 3) := dk_180 0 7 (dk_at dksX6_begins_0 10 rfl rfl)
theorem dX6_begins_13 : decode cX6_begins 13 = .ok (.iload_n 3, 1) := dk_29 (dk_at dksX6_begins_0 13 rfl rfl)
theorem dX6_begins_14 : decode cX6_begins 14 = .ok (.iconst 0, 1) := dk_3 (dk_at dksX6_begins_0 14 rfl rfl)
theorem dX6_begins_15 : decode cX6_begins 15 = .ok (.iastore, 1) := dk_79 (dk_at dksX6_begins_0 15 rfl rfl)
theorem dX6_begins_16 : decode cX6_begins 16 = .ok (.iinc 3 1, 3) := dk_132 3 1 (dk_at dksX6_begins_0 16 rfl rfl)
theorem dX6_begins_19 : decode cX6_begins 19 = .ok (.goto (-17), 3) := dk_167 255 239 (dk_at dksX6_begins_0 19 rfl rfl)
theorem dX6_begins_22 : decode cX6_begins 22 = .ok (.aload_n 0, 1) := dk_42 (dk_at dksX6_begins_0 22 rfl rfl)
theorem dX6_begins_23 : decode cX6_begins 23 = .ok (.getfield 7, 3) := dk_180 0 7 (dk_at dksX6_begins_1 0 rfl rfl)
theorem dX6_begins_26 : decode cX6_begins 26 = .ok (.iconst 0, 1) := dk_3 (dk_at dksX6_begins_1 3 rfl rfl)
theorem dX6_begins_27 : decode cX6_begins 27 = .ok (.iload_n 1, 1) := dk_27 (dk_at dksX6_begins_1 4 rfl rfl)
theorem dX6_begins_28 : decode cX6_begins 28 = .ok (.iastore, 1) := dk_79 (dk_at dksX6_begins_1 5 rfl rfl)
theorem dX6_begins_29 : decode cX6_begins 29 = .ok (.aload_n 0, 1) := dk_42 (dk_at dksX6_begins_1 6 rfl rfl)
theorem dX6_begins_30 : decode cX6_begins 30 = .ok (.getfield 7, 3) := dk_180 0 7 (dk_at dksX6_begins_1 7 rfl rfl)
theorem dX6_begins_33 : decode cX6_begins 33 = .ok (.iconst 1, 1) := dk_4 (dk_at dksX6_begins_1 10 rfl rfl)
theorem dX6_begins_34 : decode cX6_begins 34 = .ok (.iload_n 2, 1) := dk_28 (dk_at dksX6_begins_1 11 rfl rfl)
theorem dX6_begins_35 : decode cX6_begins 35 = .ok (.iastore, 1) := dk_79 (dk_at dksX6_begins_1 12 rfl rfl)
theorem dX6_begins_36 : decode cX6_begins 36 = .ok (.aload_n 0, 1) := dk_42 (dk_at dksX6_begins_1 13 rfl rfl)
theorem dX6_begins_37 : decode cX6_begins 37 = .ok (.getfield 7, 3) := dk_180 0 7 (dk_at dksX6_begins_1 14 rfl rfl)
theorem dX6_begins_40 : decode cX6_begins 40 = .ok (.bipush 6, 2) := dk_16 6 (dk_at dksX6_begins_1 17 rfl rfl)
theorem dX6_begins_42 : decode cX6_begins 42 = .ok (.iconst 3, 1) := dk_6 (dk_at dksX6_begins_1 19 rfl rfl)
theorem dX6_begins_43 : decode cX6_begins 43 = .ok (.iastore, 1) := dk_79 (dk_at dksX6_begins_1 20 rfl rfl)
theorem dX6_begins_44 : decode cX6_begins 44 = .ok (.return_, 1) := dk_177 (dk_at dksX6_begins_1 21 rfl rfl)
abbrev cX6_addsChute : ByteArray := prog_19_method_13_code
def yX6_addsChute : MethodName := ⟨RX6, "addsChute", "(IIII)V"⟩
def dkwX6_addsChute_2 : List UInt8 := [182, 0, 58, 42, 180, 0, 7, 6, 92, 46, 4, 96, 79, 177]
abbrev dktX6_addsChute_2 : List UInt8 := dkwX6_addsChute_2 ++ []
def dkwX6_addsChute_1 : List UInt8 := [42, 21, 5, 5, 29, 182, 0, 58, 42, 21, 5, 6, 21, 4, 182, 0, 58, 42, 21, 5, 8, 4]
abbrev dktX6_addsChute_1 : List UInt8 := dkwX6_addsChute_1 ++ dktX6_addsChute_2
def dkwX6_addsChute_0 : List UInt8 := [42, 180, 0, 7, 6, 46, 54, 5, 42, 21, 5, 3, 27, 182, 0, 58, 42, 21, 5, 4, 28, 182, 0, 58]
abbrev dktX6_addsChute_0 : List UInt8 := dkwX6_addsChute_0 ++ dktX6_addsChute_1
theorem dksX6_addsChute_0 : cX6_addsChute.data.toList.drop 0 = dktX6_addsChute_0 := by decide +kernel
theorem dksX6_addsChute_1 : cX6_addsChute.data.toList.drop 24 = dktX6_addsChute_1 := dk_seg dksX6_addsChute_0 24 rfl rfl
theorem dksX6_addsChute_2 : cX6_addsChute.data.toList.drop 46 = dktX6_addsChute_2 := dk_seg dksX6_addsChute_1 22 rfl rfl
theorem dX6_addsChute_0 : decode cX6_addsChute 0 = .ok (.aload_n 0, 1) := dk_42 (dk_at dksX6_addsChute_0 0 rfl rfl)
theorem dX6_addsChute_1 : decode cX6_addsChute 1 = .ok (.getfield 7, 3) := dk_180 0 7 (dk_at dksX6_addsChute_0 1 rfl rfl)
theorem dX6_addsChute_4 : decode cX6_addsChute 4 = .ok (.iconst 3, 1) := dk_6 (dk_at dksX6_addsChute_0 4 rfl rfl)
theorem dX6_addsChute_5 : decode cX6_addsChute 5 = .ok (.iaload, 1) := dk_46 (dk_at dksX6_addsChute_0 5 rfl rfl)
theorem dX6_addsChute_6 : decode cX6_addsChute 6 = .ok (.istore 5, 2) := dk_54 5 (dk_at dksX6_addsChute_0 6 rfl rfl)
theorem dX6_addsChute_8 : decode cX6_addsChute 8 = .ok (.aload_n 0, 1) := dk_42 (dk_at dksX6_addsChute_0 8 rfl rfl)
theorem dX6_addsChute_9 : decode cX6_addsChute 9 = .ok (.iload 5, 2) := dk_21 5 (dk_at dksX6_addsChute_0 9 rfl rfl)
theorem dX6_addsChute_11 : decode cX6_addsChute 11 = .ok (.iconst 0, 1) := dk_3 (dk_at dksX6_addsChute_0 11 rfl rfl)
theorem dX6_addsChute_12 : decode cX6_addsChute 12 = .ok (.iload_n 1, 1) := dk_27 (dk_at dksX6_addsChute_0 12 rfl rfl)
theorem dX6_addsChute_13 : decode cX6_addsChute 13 = .ok (.invokevirtual 58, 3) := dk_182 0 58 (dk_at dksX6_addsChute_0 13 rfl rfl)
theorem dX6_addsChute_16 : decode cX6_addsChute 16 = .ok (.aload_n 0, 1) := dk_42 (dk_at dksX6_addsChute_0 16 rfl rfl)
theorem dX6_addsChute_17 : decode cX6_addsChute 17 = .ok (.iload 5, 2) := dk_21 5 (dk_at dksX6_addsChute_0 17 rfl rfl)
theorem dX6_addsChute_19 : decode cX6_addsChute 19 = .ok (.iconst 1, 1) := dk_4 (dk_at dksX6_addsChute_0 19 rfl rfl)
theorem dX6_addsChute_20 : decode cX6_addsChute 20 = .ok (.iload_n 2, 1) := dk_28 (dk_at dksX6_addsChute_0 20 rfl rfl)
theorem dX6_addsChute_21 : decode cX6_addsChute 21 = .ok (.invokevirtual 58, 3) := dk_182 0 58 (dk_at dksX6_addsChute_0 21 rfl rfl)
theorem dX6_addsChute_24 : decode cX6_addsChute 24 = .ok (.aload_n 0, 1) := dk_42 (dk_at dksX6_addsChute_1 0 rfl rfl)
theorem dX6_addsChute_25 : decode cX6_addsChute 25 = .ok (.iload 5, 2) := dk_21 5 (dk_at dksX6_addsChute_1 1 rfl rfl)
theorem dX6_addsChute_27 : decode cX6_addsChute 27 = .ok (.iconst 2, 1) := dk_5 (dk_at dksX6_addsChute_1 3 rfl rfl)
theorem dX6_addsChute_28 : decode cX6_addsChute 28 = .ok (.iload_n 3, 1) := dk_29 (dk_at dksX6_addsChute_1 4 rfl rfl)
theorem dX6_addsChute_29 : decode cX6_addsChute 29 = .ok (.invokevirtual 58, 3) := dk_182 0 58 (dk_at dksX6_addsChute_1 5 rfl rfl)
theorem dX6_addsChute_32 : decode cX6_addsChute 32 = .ok (.aload_n 0, 1) := dk_42 (dk_at dksX6_addsChute_1 8 rfl rfl)
theorem dX6_addsChute_33 : decode cX6_addsChute 33 = .ok (.iload 5, 2) := dk_21 5 (dk_at dksX6_addsChute_1 9 rfl rfl)
theorem dX6_addsChute_35 : decode cX6_addsChute 35 = .ok (.iconst 3, 1) := dk_6 (dk_at dksX6_addsChute_1 11 rfl rfl)
theorem dX6_addsChute_36 : decode cX6_addsChute 36 = .ok (.iload 4, 2) := dk_21 4 (dk_at dksX6_addsChute_1 12 rfl rfl)
theorem dX6_addsChute_38 : decode cX6_addsChute 38 = .ok (.invokevirtual 58, 3) := dk_182 0 58 (dk_at dksX6_addsChute_1 14 rfl rfl)
theorem dX6_addsChute_41 : decode cX6_addsChute 41 = .ok (.aload_n 0, 1) := dk_42 (dk_at dksX6_addsChute_1 17 rfl rfl)
theorem dX6_addsChute_42 : decode cX6_addsChute 42 = .ok (.iload 5, 2) := dk_21 5 (dk_at dksX6_addsChute_1 18 rfl rfl)
theorem dX6_addsChute_44 : decode cX6_addsChute 44 = .ok (.iconst 5, 1) := dk_8 (dk_at dksX6_addsChute_1 20 rfl rfl)
theorem dX6_addsChute_45 : decode cX6_addsChute 45 = .ok (.iconst 1, 1) := dk_4 (dk_at dksX6_addsChute_1 21 rfl rfl)
theorem dX6_addsChute_46 : decode cX6_addsChute 46 = .ok (.invokevirtual 58, 3) := dk_182 0 58 (dk_at dksX6_addsChute_2 0 rfl rfl)
theorem dX6_addsChute_49 : decode cX6_addsChute 49 = .ok (.aload_n 0, 1) := dk_42 (dk_at dksX6_addsChute_2 3 rfl rfl)
theorem dX6_addsChute_50 : decode cX6_addsChute 50 = .ok (.getfield 7, 3) := dk_180 0 7 (dk_at dksX6_addsChute_2 4 rfl rfl)
theorem dX6_addsChute_53 : decode cX6_addsChute 53 = .ok (.iconst 3, 1) := dk_6 (dk_at dksX6_addsChute_2 7 rfl rfl)
theorem dX6_addsChute_54 : decode cX6_addsChute 54 = .ok (.dup2, 1) := dk_92 (dk_at dksX6_addsChute_2 8 rfl rfl)
theorem dX6_addsChute_55 : decode cX6_addsChute 55 = .ok (.iaload, 1) := dk_46 (dk_at dksX6_addsChute_2 9 rfl rfl)
theorem dX6_addsChute_56 : decode cX6_addsChute 56 = .ok (.iconst 1, 1) := dk_4 (dk_at dksX6_addsChute_2 10 rfl rfl)
theorem dX6_addsChute_57 : decode cX6_addsChute 57 = .ok (.iadd, 1) := dk_96 (dk_at dksX6_addsChute_2 11 rfl rfl)
theorem dX6_addsChute_58 : decode cX6_addsChute 58 = .ok (.iastore, 1) := dk_79 (dk_at dksX6_addsChute_2 12 rfl rfl)
theorem dX6_addsChute_59 : decode cX6_addsChute 59 = .ok (.return_, 1) := dk_177 (dk_at dksX6_addsChute_2 13 rfl rfl)
abbrev cX6_putsChute : ByteArray := prog_19_method_10_code
def yX6_putsChute : MethodName := ⟨RX6, "putsChute", "(III)V"⟩
def dkwX6_putsChute_0 : List UInt8 := [42, 180, 0, 7, 16, 23, 16, 17, 27, 104, 96, 28, 96, 29, 79, 177]
abbrev dktX6_putsChute_0 : List UInt8 := dkwX6_putsChute_0 ++ []
theorem dksX6_putsChute_0 : cX6_putsChute.data.toList.drop 0 = dktX6_putsChute_0 := by decide +kernel
theorem dX6_putsChute_0 : decode cX6_putsChute 0 = .ok (.aload_n 0, 1) := dk_42 (dk_at dksX6_putsChute_0 0 rfl rfl)
theorem dX6_putsChute_1 : decode cX6_putsChute 1 = .ok (.getfield 7, 3) := dk_180 0 7 (dk_at dksX6_putsChute_0 1 rfl rfl)
theorem dX6_putsChute_4 : decode cX6_putsChute 4 = .ok (.bipush 23, 2) := dk_16 23 (dk_at dksX6_putsChute_0 4 rfl rfl)
theorem dX6_putsChute_6 : decode cX6_putsChute 6 = .ok (.bipush 17, 2) := dk_16 17 (dk_at dksX6_putsChute_0 6 rfl rfl)
theorem dX6_putsChute_8 : decode cX6_putsChute 8 = .ok (.iload_n 1, 1) := dk_27 (dk_at dksX6_putsChute_0 8 rfl rfl)
theorem dX6_putsChute_9 : decode cX6_putsChute 9 = .ok (.imul, 1) := dk_104 (dk_at dksX6_putsChute_0 9 rfl rfl)
theorem dX6_putsChute_10 : decode cX6_putsChute 10 = .ok (.iadd, 1) := dk_96 (dk_at dksX6_putsChute_0 10 rfl rfl)
theorem dX6_putsChute_11 : decode cX6_putsChute 11 = .ok (.iload_n 2, 1) := dk_28 (dk_at dksX6_putsChute_0 11 rfl rfl)
theorem dX6_putsChute_12 : decode cX6_putsChute 12 = .ok (.iadd, 1) := dk_96 (dk_at dksX6_putsChute_0 12 rfl rfl)
theorem dX6_putsChute_13 : decode cX6_putsChute 13 = .ok (.iload_n 3, 1) := dk_29 (dk_at dksX6_putsChute_0 13 rfl rfl)
theorem dX6_putsChute_14 : decode cX6_putsChute 14 = .ok (.iastore, 1) := dk_79 (dk_at dksX6_putsChute_0 14 rfl rfl)
theorem dX6_putsChute_15 : decode cX6_putsChute 15 = .ok (.return_, 1) := dk_177 (dk_at dksX6_putsChute_0 15 rfl rfl)
abbrev cX6_thrown : ByteArray := prog_19_method_2_code
def yX6_thrown : MethodName := ⟨RX6, "thrown", "()I"⟩
theorem dX6_thrown_0 : decode cX6_thrown 0 = .ok (.aload_n 0, 1) := by decide +kernel
theorem dX6_thrown_1 : decode cX6_thrown 1 = .ok (.getfield 55, 3) := by decide +kernel
theorem dX6_thrown_4 : decode cX6_thrown 4 = .ok (.ireturn, 1) := by decide +kernel
abbrev cX6_appendInput : ByteArray := prog_19_method_43_code
def yX6_appendInput : MethodName := ⟨RX6, "appendInput", "(IIIII)I"⟩
def dkwX6_appendInput_2 : List UInt8 := [182, 0, 149, 42, 180, 0, 146, 172]
abbrev dktX6_appendInput_2 : List UInt8 := dkwX6_appendInput_2 ++ []
def dkwX6_appendInput_1 : List UInt8 := [182, 0, 149, 42, 28, 182, 0, 149, 42, 29, 182, 0, 149, 42, 21, 4, 182, 0, 149, 42, 21, 5]
abbrev dktX6_appendInput_1 : List UInt8 := dkwX6_appendInput_1 ++ dktX6_appendInput_2
def dkwX6_appendInput_0 : List UInt8 := [42, 3, 181, 0, 55, 42, 180, 0, 146, 16, 20, 96, 17, 2, 88, 164, 0, 5, 2, 172, 42, 27]
abbrev dktX6_appendInput_0 : List UInt8 := dkwX6_appendInput_0 ++ dktX6_appendInput_1
theorem dksX6_appendInput_0 : cX6_appendInput.data.toList.drop 0 = dktX6_appendInput_0 := by decide +kernel
theorem dksX6_appendInput_1 : cX6_appendInput.data.toList.drop 22 = dktX6_appendInput_1 := dk_seg dksX6_appendInput_0 22 rfl rfl
theorem dksX6_appendInput_2 : cX6_appendInput.data.toList.drop 44 = dktX6_appendInput_2 := dk_seg dksX6_appendInput_1 22 rfl rfl
theorem dX6_appendInput_0 : decode cX6_appendInput 0 = .ok (.aload_n 0, 1) := dk_42 (dk_at dksX6_appendInput_0 0 rfl rfl)
theorem dX6_appendInput_1 : decode cX6_appendInput 1 = .ok (.iconst 0, 1) := dk_3 (dk_at dksX6_appendInput_0 1 rfl rfl)
theorem dX6_appendInput_2 : decode cX6_appendInput 2 = .ok (.putfield 55, 3) := dk_181 0 55 (dk_at dksX6_appendInput_0 2 rfl rfl)
theorem dX6_appendInput_5 : decode cX6_appendInput 5 = .ok (.aload_n 0, 1) := dk_42 (dk_at dksX6_appendInput_0 5 rfl rfl)
theorem dX6_appendInput_6 : decode cX6_appendInput 6 = .ok (.getfield 146, 3) := dk_180 0 146 (dk_at dksX6_appendInput_0 6 rfl rfl)
theorem dX6_appendInput_9 : decode cX6_appendInput 9 = .ok (.bipush 20, 2) := dk_16 20 (dk_at dksX6_appendInput_0 9 rfl rfl)
theorem dX6_appendInput_11 : decode cX6_appendInput 11 = .ok (.iadd, 1) := dk_96 (dk_at dksX6_appendInput_0 11 rfl rfl)
theorem dX6_appendInput_12 : decode cX6_appendInput 12 = .ok (.sipush 600, 3) := dk_17 2 88 (dk_at dksX6_appendInput_0 12 rfl rfl)
theorem dX6_appendInput_15 : decode cX6_appendInput 15 = .ok (.if_icmp .le 5, 3) := dk_164 0 5 (dk_at dksX6_appendInput_0 15 rfl rfl)
theorem dX6_appendInput_18 : decode cX6_appendInput 18 = .ok (.iconst (-1), 1) := dk_2 (dk_at dksX6_appendInput_0 18 rfl rfl)
theorem dX6_appendInput_19 : decode cX6_appendInput 19 = .ok (.ireturn, 1) := dk_172 (dk_at dksX6_appendInput_0 19 rfl rfl)
theorem dX6_appendInput_20 : decode cX6_appendInput 20 = .ok (.aload_n 0, 1) := dk_42 (dk_at dksX6_appendInput_0 20 rfl rfl)
theorem dX6_appendInput_21 : decode cX6_appendInput 21 = .ok (.iload_n 1, 1) := dk_27 (dk_at dksX6_appendInput_0 21 rfl rfl)
theorem dX6_appendInput_22 : decode cX6_appendInput 22 = .ok (.invokevirtual 149, 3) := dk_182 0 149 (dk_at dksX6_appendInput_1 0 rfl rfl)
theorem dX6_appendInput_25 : decode cX6_appendInput 25 = .ok (.aload_n 0, 1) := dk_42 (dk_at dksX6_appendInput_1 3 rfl rfl)
theorem dX6_appendInput_26 : decode cX6_appendInput 26 = .ok (.iload_n 2, 1) := dk_28 (dk_at dksX6_appendInput_1 4 rfl rfl)
theorem dX6_appendInput_27 : decode cX6_appendInput 27 = .ok (.invokevirtual 149, 3) := dk_182 0 149 (dk_at dksX6_appendInput_1 5 rfl rfl)
theorem dX6_appendInput_30 : decode cX6_appendInput 30 = .ok (.aload_n 0, 1) := dk_42 (dk_at dksX6_appendInput_1 8 rfl rfl)
theorem dX6_appendInput_31 : decode cX6_appendInput 31 = .ok (.iload_n 3, 1) := dk_29 (dk_at dksX6_appendInput_1 9 rfl rfl)
theorem dX6_appendInput_32 : decode cX6_appendInput 32 = .ok (.invokevirtual 149, 3) := dk_182 0 149 (dk_at dksX6_appendInput_1 10 rfl rfl)
theorem dX6_appendInput_35 : decode cX6_appendInput 35 = .ok (.aload_n 0, 1) := dk_42 (dk_at dksX6_appendInput_1 13 rfl rfl)
theorem dX6_appendInput_36 : decode cX6_appendInput 36 = .ok (.iload 4, 2) := dk_21 4 (dk_at dksX6_appendInput_1 14 rfl rfl)
theorem dX6_appendInput_38 : decode cX6_appendInput 38 = .ok (.invokevirtual 149, 3) := dk_182 0 149 (dk_at dksX6_appendInput_1 16 rfl rfl)
theorem dX6_appendInput_41 : decode cX6_appendInput 41 = .ok (.aload_n 0, 1) := dk_42 (dk_at dksX6_appendInput_1 19 rfl rfl)
theorem dX6_appendInput_42 : decode cX6_appendInput 42 = .ok (.iload 5, 2) := dk_21 5 (dk_at dksX6_appendInput_1 20 rfl rfl)
theorem dX6_appendInput_44 : decode cX6_appendInput 44 = .ok (.invokevirtual 149, 3) := dk_182 0 149 (dk_at dksX6_appendInput_2 0 rfl rfl)
theorem dX6_appendInput_47 : decode cX6_appendInput 47 = .ok (.aload_n 0, 1) := dk_42 (dk_at dksX6_appendInput_2 3 rfl rfl)
theorem dX6_appendInput_48 : decode cX6_appendInput 48 = .ok (.getfield 146, 3) := dk_180 0 146 (dk_at dksX6_appendInput_2 4 rfl rfl)
theorem dX6_appendInput_51 : decode cX6_appendInput 51 = .ok (.ireturn, 1) := dk_172 (dk_at dksX6_appendInput_2 7 rfl rfl)
abbrev cX6_appendWord : ByteArray := prog_19_method_42_code
def yX6_appendWord : MethodName := ⟨RX6, "appendWord", "(I)V"⟩
def dkwX6_appendWord_1 : List UInt8 := [89, 180, 0, 146, 4, 96, 181, 0, 146, 132, 2, 248, 167, 255, 223, 177]
abbrev dktX6_appendWord_1 : List UInt8 := dkwX6_appendWord_1 ++ []
def dkwX6_appendWord_0 : List UInt8 := [16, 24, 61, 28, 155, 0, 35, 42, 180, 0, 25, 42, 180, 0, 146, 27, 28, 122, 17, 0, 255, 126, 79, 42]
abbrev dktX6_appendWord_0 : List UInt8 := dkwX6_appendWord_0 ++ dktX6_appendWord_1
theorem dksX6_appendWord_0 : cX6_appendWord.data.toList.drop 0 = dktX6_appendWord_0 := by decide +kernel
theorem dksX6_appendWord_1 : cX6_appendWord.data.toList.drop 24 = dktX6_appendWord_1 := dk_seg dksX6_appendWord_0 24 rfl rfl
theorem dX6_appendWord_0 : decode cX6_appendWord 0 = .ok (.bipush 24, 2) := dk_16 24 (dk_at dksX6_appendWord_0 0 rfl rfl)
theorem dX6_appendWord_2 : decode cX6_appendWord 2 = .ok (.istore_n 2, 1) := dk_61 (dk_at dksX6_appendWord_0 2 rfl rfl)
theorem dX6_appendWord_3 : decode cX6_appendWord 3 = .ok (.iload_n 2, 1) := dk_28 (dk_at dksX6_appendWord_0 3 rfl rfl)
theorem dX6_appendWord_4 : decode cX6_appendWord 4 = .ok (.ifCond .lt 35, 3) := dk_155 0 35 (dk_at dksX6_appendWord_0 4 rfl rfl)
theorem dX6_appendWord_7 : decode cX6_appendWord 7 = .ok (.aload_n 0, 1) := dk_42 (dk_at dksX6_appendWord_0 7 rfl rfl)
theorem dX6_appendWord_8 : decode cX6_appendWord 8 = .ok (.getfield 25, 3) := dk_180 0 25 (dk_at dksX6_appendWord_0 8 rfl rfl)
theorem dX6_appendWord_11 : decode cX6_appendWord 11 = .ok (.aload_n 0, 1) := dk_42 (dk_at dksX6_appendWord_0 11 rfl rfl)
theorem dX6_appendWord_12 : decode cX6_appendWord 12 = .ok (.getfield 146, 3) := dk_180 0 146 (dk_at dksX6_appendWord_0 12 rfl rfl)
theorem dX6_appendWord_15 : decode cX6_appendWord 15 = .ok (.iload_n 1, 1) := dk_27 (dk_at dksX6_appendWord_0 15 rfl rfl)
theorem dX6_appendWord_16 : decode cX6_appendWord 16 = .ok (.iload_n 2, 1) := dk_28 (dk_at dksX6_appendWord_0 16 rfl rfl)
theorem dX6_appendWord_17 : decode cX6_appendWord 17 = .ok (.ishr, 1) := dk_122 (dk_at dksX6_appendWord_0 17 rfl rfl)
theorem dX6_appendWord_18 : decode cX6_appendWord 18 = .ok (.sipush 255, 3) := dk_17 0 255 (dk_at dksX6_appendWord_0 18 rfl rfl)
theorem dX6_appendWord_21 : decode cX6_appendWord 21 = .ok (.iand, 1) := dk_126 (dk_at dksX6_appendWord_0 21 rfl rfl)
theorem dX6_appendWord_22 : decode cX6_appendWord 22 = .ok (.iastore, 1) := dk_79 (dk_at dksX6_appendWord_0 22 rfl rfl)
theorem dX6_appendWord_23 : decode cX6_appendWord 23 = .ok (.aload_n 0, 1) := dk_42 (dk_at dksX6_appendWord_0 23 rfl rfl)
theorem dX6_appendWord_24 : decode cX6_appendWord 24 = .ok (.dup, 1) := dk_89 (dk_at dksX6_appendWord_1 0 rfl rfl)
theorem dX6_appendWord_25 : decode cX6_appendWord 25 = .ok (.getfield 146, 3) := dk_180 0 146 (dk_at dksX6_appendWord_1 1 rfl rfl)
theorem dX6_appendWord_28 : decode cX6_appendWord 28 = .ok (.iconst 1, 1) := dk_4 (dk_at dksX6_appendWord_1 4 rfl rfl)
theorem dX6_appendWord_29 : decode cX6_appendWord 29 = .ok (.iadd, 1) := dk_96 (dk_at dksX6_appendWord_1 5 rfl rfl)
theorem dX6_appendWord_30 : decode cX6_appendWord 30 = .ok (.putfield 146, 3) := dk_181 0 146 (dk_at dksX6_appendWord_1 6 rfl rfl)
theorem dX6_appendWord_33 : decode cX6_appendWord 33 = .ok (.iinc 2 (-8), 3) := dk_132 2 248 (dk_at dksX6_appendWord_1 9 rfl rfl)
theorem dX6_appendWord_36 : decode cX6_appendWord 36 = .ok (.goto (-33), 3) := dk_167 255 223 (dk_at dksX6_appendWord_1 12 rfl rfl)
theorem dX6_appendWord_39 : decode cX6_appendWord 39 = .ok (.return_, 1) := dk_177 (dk_at dksX6_appendWord_1 15 rfl rfl)
abbrev cX6_truncateInput : ByteArray := prog_19_method_44_code
def yX6_truncateInput : MethodName := ⟨RX6, "truncateInput", "(I)Z"⟩
def dkwX6_truncateInput_1 : List UInt8 := [4, 172]
abbrev dktX6_truncateInput_1 : List UInt8 := dkwX6_truncateInput_1 ++ []
def dkwX6_truncateInput_0 : List UInt8 := [42, 3, 181, 0, 55, 27, 3, 42, 180, 0, 146, 184, 0, 152, 154, 0, 5, 3, 172, 42, 27, 181, 0, 146]
abbrev dktX6_truncateInput_0 : List UInt8 := dkwX6_truncateInput_0 ++ dktX6_truncateInput_1
theorem dksX6_truncateInput_0 : cX6_truncateInput.data.toList.drop 0 = dktX6_truncateInput_0 := by decide +kernel
theorem dksX6_truncateInput_1 : cX6_truncateInput.data.toList.drop 24 = dktX6_truncateInput_1 := dk_seg dksX6_truncateInput_0 24 rfl rfl
theorem dX6_truncateInput_0 : decode cX6_truncateInput 0 = .ok (.aload_n 0, 1) := dk_42 (dk_at dksX6_truncateInput_0 0 rfl rfl)
theorem dX6_truncateInput_1 : decode cX6_truncateInput 1 = .ok (.iconst 0, 1) := dk_3 (dk_at dksX6_truncateInput_0 1 rfl rfl)
theorem dX6_truncateInput_2 : decode cX6_truncateInput 2 = .ok (.putfield 55, 3) := dk_181 0 55 (dk_at dksX6_truncateInput_0 2 rfl rfl)
theorem dX6_truncateInput_5 : decode cX6_truncateInput 5 = .ok (.iload_n 1, 1) := dk_27 (dk_at dksX6_truncateInput_0 5 rfl rfl)
theorem dX6_truncateInput_6 : decode cX6_truncateInput 6 = .ok (.iconst 0, 1) := dk_3 (dk_at dksX6_truncateInput_0 6 rfl rfl)
theorem dX6_truncateInput_7 : decode cX6_truncateInput 7 = .ok (.aload_n 0, 1) := dk_42 (dk_at dksX6_truncateInput_0 7 rfl rfl)
theorem dX6_truncateInput_8 : decode cX6_truncateInput 8 = .ok (.getfield 146, 3) := dk_180 0 146 (dk_at dksX6_truncateInput_0 8 rfl rfl)
theorem dX6_truncateInput_11 : decode cX6_truncateInput 11 = .ok (.invokestatic 152, 3) := dk_184 0 152 (dk_at dksX6_truncateInput_0 11 rfl rfl)
theorem dX6_truncateInput_14 : decode cX6_truncateInput 14 = .ok (.ifCond .ne 5, 3) := dk_154 0 5 (dk_at dksX6_truncateInput_0 14 rfl rfl)
theorem dX6_truncateInput_17 : decode cX6_truncateInput 17 = .ok (.iconst 0, 1) := dk_3 (dk_at dksX6_truncateInput_0 17 rfl rfl)
theorem dX6_truncateInput_18 : decode cX6_truncateInput 18 = .ok (.ireturn, 1) := dk_172 (dk_at dksX6_truncateInput_0 18 rfl rfl)
theorem dX6_truncateInput_19 : decode cX6_truncateInput 19 = .ok (.aload_n 0, 1) := dk_42 (dk_at dksX6_truncateInput_0 19 rfl rfl)
theorem dX6_truncateInput_20 : decode cX6_truncateInput 20 = .ok (.iload_n 1, 1) := dk_27 (dk_at dksX6_truncateInput_0 20 rfl rfl)
theorem dX6_truncateInput_21 : decode cX6_truncateInput 21 = .ok (.putfield 146, 3) := dk_181 0 146 (dk_at dksX6_truncateInput_0 21 rfl rfl)
theorem dX6_truncateInput_24 : decode cX6_truncateInput 24 = .ok (.iconst 1, 1) := dk_4 (dk_at dksX6_truncateInput_1 0 rfl rfl)
theorem dX6_truncateInput_25 : decode cX6_truncateInput 25 = .ok (.ireturn, 1) := dk_172 (dk_at dksX6_truncateInput_1 1 rfl rfl)
abbrev cX6_inRange : ByteArray := prog_19_method_3_code
def yX6_inRange : MethodName := ⟨RX6, "inRange", "(III)Z"⟩
def dkwX6_inRange_0 : List UInt8 := [26, 27, 161, 0, 12, 26, 28, 163, 0, 7, 4, 167, 0, 4, 3, 172]
abbrev dktX6_inRange_0 : List UInt8 := dkwX6_inRange_0 ++ []
theorem dksX6_inRange_0 : cX6_inRange.data.toList.drop 0 = dktX6_inRange_0 := by decide +kernel
theorem dX6_inRange_0 : decode cX6_inRange 0 = .ok (.iload_n 0, 1) := dk_26 (dk_at dksX6_inRange_0 0 rfl rfl)
theorem dX6_inRange_1 : decode cX6_inRange 1 = .ok (.iload_n 1, 1) := dk_27 (dk_at dksX6_inRange_0 1 rfl rfl)
theorem dX6_inRange_2 : decode cX6_inRange 2 = .ok (.if_icmp .lt 12, 3) := dk_161 0 12 (dk_at dksX6_inRange_0 2 rfl rfl)
theorem dX6_inRange_5 : decode cX6_inRange 5 = .ok (.iload_n 0, 1) := dk_26 (dk_at dksX6_inRange_0 5 rfl rfl)
theorem dX6_inRange_6 : decode cX6_inRange 6 = .ok (.iload_n 2, 1) := dk_28 (dk_at dksX6_inRange_0 6 rfl rfl)
theorem dX6_inRange_7 : decode cX6_inRange 7 = .ok (.if_icmp .gt 7, 3) := dk_163 0 7 (dk_at dksX6_inRange_0 7 rfl rfl)
theorem dX6_inRange_10 : decode cX6_inRange 10 = .ok (.iconst 1, 1) := dk_4 (dk_at dksX6_inRange_0 10 rfl rfl)
theorem dX6_inRange_11 : decode cX6_inRange 11 = .ok (.goto 4, 3) := dk_167 0 4 (dk_at dksX6_inRange_0 11 rfl rfl)
theorem dX6_inRange_14 : decode cX6_inRange 14 = .ok (.iconst 0, 1) := dk_3 (dk_at dksX6_inRange_0 14 rfl rfl)
theorem dX6_inRange_15 : decode cX6_inRange 15 = .ok (.ireturn, 1) := dk_172 (dk_at dksX6_inRange_0 15 rfl rfl)
abbrev cX6_loadLoop : ByteArray := prog_19_method_62_code
def yX6_loadLoop : MethodName := ⟨RX6, "loadLoop", "()I"⟩
def dkwX6_loadLoop_2 : List UInt8 := [184, 0, 142, 2, 172, 42, 3, 181, 0, 139, 42, 3, 181, 1, 1, 42, 180, 0, 7, 6, 46, 172]
abbrev dktX6_loadLoop_2 : List UInt8 := dkwX6_loadLoop_2 ++ []
def dkwX6_loadLoop_1 : List UInt8 := [182, 0, 251, 60, 42, 182, 0, 254, 27, 154, 0, 18, 42, 180, 0, 13, 3, 42, 180, 0, 7, 3]
abbrev dktX6_loadLoop_1 : List UInt8 := dkwX6_loadLoop_1 ++ dktX6_loadLoop_2
def dkwX6_loadLoop_0 : List UInt8 := [42, 3, 181, 0, 55, 42, 180, 0, 7, 3, 42, 180, 0, 13, 3, 184, 0, 142, 42, 182, 0, 248, 42]
abbrev dktX6_loadLoop_0 : List UInt8 := dkwX6_loadLoop_0 ++ dktX6_loadLoop_1
theorem dksX6_loadLoop_0 : cX6_loadLoop.data.toList.drop 0 = dktX6_loadLoop_0 := by decide +kernel
theorem dksX6_loadLoop_1 : cX6_loadLoop.data.toList.drop 23 = dktX6_loadLoop_1 := dk_seg dksX6_loadLoop_0 23 rfl rfl
theorem dksX6_loadLoop_2 : cX6_loadLoop.data.toList.drop 45 = dktX6_loadLoop_2 := dk_seg dksX6_loadLoop_1 22 rfl rfl
theorem dX6_loadLoop_0 : decode cX6_loadLoop 0 = .ok (.aload_n 0, 1) := dk_42 (dk_at dksX6_loadLoop_0 0 rfl rfl)
theorem dX6_loadLoop_1 : decode cX6_loadLoop 1 = .ok (.iconst 0, 1) := dk_3 (dk_at dksX6_loadLoop_0 1 rfl rfl)
theorem dX6_loadLoop_2 : decode cX6_loadLoop 2 = .ok (.putfield 55, 3) := dk_181 0 55 (dk_at dksX6_loadLoop_0 2 rfl rfl)
theorem dX6_loadLoop_5 : decode cX6_loadLoop 5 = .ok (.aload_n 0, 1) := dk_42 (dk_at dksX6_loadLoop_0 5 rfl rfl)
theorem dX6_loadLoop_6 : decode cX6_loadLoop 6 = .ok (.getfield 7, 3) := dk_180 0 7 (dk_at dksX6_loadLoop_0 6 rfl rfl)
theorem dX6_loadLoop_9 : decode cX6_loadLoop 9 = .ok (.iconst 0, 1) := dk_3 (dk_at dksX6_loadLoop_0 9 rfl rfl)
theorem dX6_loadLoop_10 : decode cX6_loadLoop 10 = .ok (.aload_n 0, 1) := dk_42 (dk_at dksX6_loadLoop_0 10 rfl rfl)
theorem dX6_loadLoop_11 : decode cX6_loadLoop 11 = .ok (.getfield 13, 3) := dk_180 0 13 (dk_at dksX6_loadLoop_0 11 rfl rfl)
theorem dX6_loadLoop_14 : decode cX6_loadLoop 14 = .ok (.iconst 0, 1) := dk_3 (dk_at dksX6_loadLoop_0 14 rfl rfl)
theorem dX6_loadLoop_15 : decode cX6_loadLoop 15 = .ok (.invokestatic 142, 3) := dk_184 0 142 (dk_at dksX6_loadLoop_0 15 rfl rfl)
theorem dX6_loadLoop_18 : decode cX6_loadLoop 18 = .ok (.aload_n 0, 1) := dk_42 (dk_at dksX6_loadLoop_0 18 rfl rfl)
theorem dX6_loadLoop_19 : decode cX6_loadLoop 19 = .ok (.invokevirtual 248, 3) := dk_182 0 248 (dk_at dksX6_loadLoop_0 19 rfl rfl)
theorem dX6_loadLoop_22 : decode cX6_loadLoop 22 = .ok (.aload_n 0, 1) := dk_42 (dk_at dksX6_loadLoop_0 22 rfl rfl)
theorem dX6_loadLoop_23 : decode cX6_loadLoop 23 = .ok (.invokevirtual 251, 3) := dk_182 0 251 (dk_at dksX6_loadLoop_1 0 rfl rfl)
theorem dX6_loadLoop_26 : decode cX6_loadLoop 26 = .ok (.istore_n 1, 1) := dk_60 (dk_at dksX6_loadLoop_1 3 rfl rfl)
theorem dX6_loadLoop_27 : decode cX6_loadLoop 27 = .ok (.aload_n 0, 1) := dk_42 (dk_at dksX6_loadLoop_1 4 rfl rfl)
theorem dX6_loadLoop_28 : decode cX6_loadLoop 28 = .ok (.invokevirtual 254, 3) := dk_182 0 254 (dk_at dksX6_loadLoop_1 5 rfl rfl)
theorem dX6_loadLoop_31 : decode cX6_loadLoop 31 = .ok (.iload_n 1, 1) := dk_27 (dk_at dksX6_loadLoop_1 8 rfl rfl)
theorem dX6_loadLoop_32 : decode cX6_loadLoop 32 = .ok (.ifCond .ne 18, 3) := dk_154 0 18 (dk_at dksX6_loadLoop_1 9 rfl rfl)
theorem dX6_loadLoop_35 : decode cX6_loadLoop 35 = .ok (.aload_n 0, 1) := dk_42 (dk_at dksX6_loadLoop_1 12 rfl rfl)
theorem dX6_loadLoop_36 : decode cX6_loadLoop 36 = .ok (.getfield 13, 3) := dk_180 0 13 (dk_at dksX6_loadLoop_1 13 rfl rfl)
theorem dX6_loadLoop_39 : decode cX6_loadLoop 39 = .ok (.iconst 0, 1) := dk_3 (dk_at dksX6_loadLoop_1 16 rfl rfl)
theorem dX6_loadLoop_40 : decode cX6_loadLoop 40 = .ok (.aload_n 0, 1) := dk_42 (dk_at dksX6_loadLoop_1 17 rfl rfl)
theorem dX6_loadLoop_41 : decode cX6_loadLoop 41 = .ok (.getfield 7, 3) := dk_180 0 7 (dk_at dksX6_loadLoop_1 18 rfl rfl)
theorem dX6_loadLoop_44 : decode cX6_loadLoop 44 = .ok (.iconst 0, 1) := dk_3 (dk_at dksX6_loadLoop_1 21 rfl rfl)
theorem dX6_loadLoop_45 : decode cX6_loadLoop 45 = .ok (.invokestatic 142, 3) := dk_184 0 142 (dk_at dksX6_loadLoop_2 0 rfl rfl)
theorem dX6_loadLoop_48 : decode cX6_loadLoop 48 = .ok (.iconst (-1), 1) := dk_2 (dk_at dksX6_loadLoop_2 3 rfl rfl)
theorem dX6_loadLoop_49 : decode cX6_loadLoop 49 = .ok (.ireturn, 1) := dk_172 (dk_at dksX6_loadLoop_2 4 rfl rfl)
theorem dX6_loadLoop_50 : decode cX6_loadLoop 50 = .ok (.aload_n 0, 1) := dk_42 (dk_at dksX6_loadLoop_2 5 rfl rfl)
theorem dX6_loadLoop_51 : decode cX6_loadLoop 51 = .ok (.iconst 0, 1) := dk_3 (dk_at dksX6_loadLoop_2 6 rfl rfl)
theorem dX6_loadLoop_52 : decode cX6_loadLoop 52 = .ok (.putfield 139, 3) := dk_181 0 139 (dk_at dksX6_loadLoop_2 7 rfl rfl)
theorem dX6_loadLoop_55 : decode cX6_loadLoop 55 = .ok (.aload_n 0, 1) := dk_42 (dk_at dksX6_loadLoop_2 10 rfl rfl)
theorem dX6_loadLoop_56 : decode cX6_loadLoop 56 = .ok (.iconst 0, 1) := dk_3 (dk_at dksX6_loadLoop_2 11 rfl rfl)
theorem dX6_loadLoop_57 : decode cX6_loadLoop 57 = .ok (.putfield 257, 3) := dk_181 1 1 (dk_at dksX6_loadLoop_2 12 rfl rfl)
theorem dX6_loadLoop_60 : decode cX6_loadLoop 60 = .ok (.aload_n 0, 1) := dk_42 (dk_at dksX6_loadLoop_2 15 rfl rfl)
theorem dX6_loadLoop_61 : decode cX6_loadLoop 61 = .ok (.getfield 7, 3) := dk_180 0 7 (dk_at dksX6_loadLoop_2 16 rfl rfl)
theorem dX6_loadLoop_64 : decode cX6_loadLoop 64 = .ok (.iconst 3, 1) := dk_6 (dk_at dksX6_loadLoop_2 19 rfl rfl)
theorem dX6_loadLoop_65 : decode cX6_loadLoop 65 = .ok (.iaload, 1) := dk_46 (dk_at dksX6_loadLoop_2 20 rfl rfl)
theorem dX6_loadLoop_66 : decode cX6_loadLoop 66 = .ok (.ireturn, 1) := dk_172 (dk_at dksX6_loadLoop_2 21 rfl rfl)
abbrev cX6_copies : ByteArray := prog_19_method_6_code
def yX6_copies : MethodName := ⟨RX6, "copies", "([II[II)V"⟩
def dkwX6_copies_1 : List UInt8 := [132, 4, 1, 167, 255, 233, 177]
abbrev dktX6_copies_1 : List UInt8 := dkwX6_copies_1 ++ []
def dkwX6_copies_0 : List UInt8 := [3, 54, 4, 21, 4, 17, 2, 13, 162, 0, 21, 44, 29, 21, 4, 96, 42, 27, 21, 4, 96, 46, 79]
abbrev dktX6_copies_0 : List UInt8 := dkwX6_copies_0 ++ dktX6_copies_1
theorem dksX6_copies_0 : cX6_copies.data.toList.drop 0 = dktX6_copies_0 := by decide +kernel
theorem dksX6_copies_1 : cX6_copies.data.toList.drop 23 = dktX6_copies_1 := dk_seg dksX6_copies_0 23 rfl rfl
theorem dX6_copies_0 : decode cX6_copies 0 = .ok (.iconst 0, 1) := dk_3 (dk_at dksX6_copies_0 0 rfl rfl)
theorem dX6_copies_1 : decode cX6_copies 1 = .ok (.istore 4, 2) := dk_54 4 (dk_at dksX6_copies_0 1 rfl rfl)
theorem dX6_copies_3 : decode cX6_copies 3 = .ok (.iload 4, 2) := dk_21 4 (dk_at dksX6_copies_0 3 rfl rfl)
theorem dX6_copies_5 : decode cX6_copies 5 = .ok (.sipush 525, 3) := dk_17 2 13 (dk_at dksX6_copies_0 5 rfl rfl)
theorem dX6_copies_8 : decode cX6_copies 8 = .ok (.if_icmp .ge 21, 3) := dk_162 0 21 (dk_at dksX6_copies_0 8 rfl rfl)
theorem dX6_copies_11 : decode cX6_copies 11 = .ok (.aload_n 2, 1) := dk_44 (dk_at dksX6_copies_0 11 rfl rfl)
theorem dX6_copies_12 : decode cX6_copies 12 = .ok (.iload_n 3, 1) := dk_29 (dk_at dksX6_copies_0 12 rfl rfl)
theorem dX6_copies_13 : decode cX6_copies 13 = .ok (.iload 4, 2) := dk_21 4 (dk_at dksX6_copies_0 13 rfl rfl)
theorem dX6_copies_15 : decode cX6_copies 15 = .ok (.iadd, 1) := dk_96 (dk_at dksX6_copies_0 15 rfl rfl)
theorem dX6_copies_16 : decode cX6_copies 16 = .ok (.aload_n 0, 1) := dk_42 (dk_at dksX6_copies_0 16 rfl rfl)
theorem dX6_copies_17 : decode cX6_copies 17 = .ok (.iload_n 1, 1) := dk_27 (dk_at dksX6_copies_0 17 rfl rfl)
theorem dX6_copies_18 : decode cX6_copies 18 = .ok (.iload 4, 2) := dk_21 4 (dk_at dksX6_copies_0 18 rfl rfl)
theorem dX6_copies_20 : decode cX6_copies 20 = .ok (.iadd, 1) := dk_96 (dk_at dksX6_copies_0 20 rfl rfl)
theorem dX6_copies_21 : decode cX6_copies 21 = .ok (.iaload, 1) := dk_46 (dk_at dksX6_copies_0 21 rfl rfl)
theorem dX6_copies_22 : decode cX6_copies 22 = .ok (.iastore, 1) := dk_79 (dk_at dksX6_copies_0 22 rfl rfl)
theorem dX6_copies_23 : decode cX6_copies 23 = .ok (.iinc 4 1, 3) := dk_132 4 1 (dk_at dksX6_copies_1 0 rfl rfl)
theorem dX6_copies_26 : decode cX6_copies 26 = .ok (.goto (-23), 3) := dk_167 255 233 (dk_at dksX6_copies_1 3 rfl rfl)
theorem dX6_copies_29 : decode cX6_copies 29 = .ok (.return_, 1) := dk_177 (dk_at dksX6_copies_1 6 rfl rfl)
abbrev cX6_startsText : ByteArray := prog_19_method_60_code
def yX6_startsText : MethodName := ⟨RX6, "startsText", "()V"⟩
def dkwX6_startsText_1 : List UInt8 := [177]
abbrev dktX6_startsText_1 : List UInt8 := dkwX6_startsText_1 ++ []
def dkwX6_startsText_0 : List UInt8 := [42, 3, 181, 0, 174, 42, 2, 181, 0, 177, 42, 3, 181, 0, 242, 42, 3, 181, 0, 159, 42, 182, 0, 199]
abbrev dktX6_startsText_0 : List UInt8 := dkwX6_startsText_0 ++ dktX6_startsText_1
theorem dksX6_startsText_0 : cX6_startsText.data.toList.drop 0 = dktX6_startsText_0 := by decide +kernel
theorem dksX6_startsText_1 : cX6_startsText.data.toList.drop 24 = dktX6_startsText_1 := dk_seg dksX6_startsText_0 24 rfl rfl
theorem dX6_startsText_0 : decode cX6_startsText 0 = .ok (.aload_n 0, 1) := dk_42 (dk_at dksX6_startsText_0 0 rfl rfl)
theorem dX6_startsText_1 : decode cX6_startsText 1 = .ok (.iconst 0, 1) := dk_3 (dk_at dksX6_startsText_0 1 rfl rfl)
theorem dX6_startsText_2 : decode cX6_startsText 2 = .ok (.putfield 174, 3) := dk_181 0 174 (dk_at dksX6_startsText_0 2 rfl rfl)
theorem dX6_startsText_5 : decode cX6_startsText 5 = .ok (.aload_n 0, 1) := dk_42 (dk_at dksX6_startsText_0 5 rfl rfl)
theorem dX6_startsText_6 : decode cX6_startsText 6 = .ok (.iconst (-1), 1) := dk_2 (dk_at dksX6_startsText_0 6 rfl rfl)
theorem dX6_startsText_7 : decode cX6_startsText 7 = .ok (.putfield 177, 3) := dk_181 0 177 (dk_at dksX6_startsText_0 7 rfl rfl)
theorem dX6_startsText_10 : decode cX6_startsText 10 = .ok (.aload_n 0, 1) := dk_42 (dk_at dksX6_startsText_0 10 rfl rfl)
theorem dX6_startsText_11 : decode cX6_startsText 11 = .ok (.iconst 0, 1) := dk_3 (dk_at dksX6_startsText_0 11 rfl rfl)
theorem dX6_startsText_12 : decode cX6_startsText 12 = .ok (.putfield 242, 3) := dk_181 0 242 (dk_at dksX6_startsText_0 12 rfl rfl)
theorem dX6_startsText_15 : decode cX6_startsText 15 = .ok (.aload_n 0, 1) := dk_42 (dk_at dksX6_startsText_0 15 rfl rfl)
theorem dX6_startsText_16 : decode cX6_startsText 16 = .ok (.iconst 0, 1) := dk_3 (dk_at dksX6_startsText_0 16 rfl rfl)
theorem dX6_startsText_17 : decode cX6_startsText 17 = .ok (.putfield 159, 3) := dk_181 0 159 (dk_at dksX6_startsText_0 17 rfl rfl)
theorem dX6_startsText_20 : decode cX6_startsText 20 = .ok (.aload_n 0, 1) := dk_42 (dk_at dksX6_startsText_0 20 rfl rfl)
theorem dX6_startsText_21 : decode cX6_startsText 21 = .ok (.invokevirtual 199, 3) := dk_182 0 199 (dk_at dksX6_startsText_0 21 rfl rfl)
theorem dX6_startsText_24 : decode cX6_startsText 24 = .ok (.return_, 1) := dk_177 (dk_at dksX6_startsText_1 0 rfl rfl)
abbrev cX6_advanceToken : ByteArray := prog_19_method_47_code
def yX6_advanceToken : MethodName := ⟨RX6, "advanceToken", "()V"⟩
def dkwX6_advanceToken_11 : List UInt8 := [167, 0, 4, 7, 181, 0, 168, 42, 89, 180, 0, 159, 4, 96, 181, 0, 159, 177]
abbrev dktX6_advanceToken_11 : List UInt8 := dkwX6_advanceToken_11 ++ []
def dkwX6_advanceToken_10 : List UInt8 := [164, 0, 7, 7, 167, 0, 4, 5, 181, 0, 168, 167, 0, 28, 42, 27, 16, 59, 160, 0, 7, 6]
abbrev dktX6_advanceToken_10 : List UInt8 := dkwX6_advanceToken_10 ++ dktX6_advanceToken_11
def dkwX6_advanceToken_9 : List UInt8 := [180, 0, 159, 4, 96, 181, 0, 159, 167, 255, 185, 42, 42, 180, 0, 159, 42, 180, 0, 162, 100, 6]
abbrev dktX6_advanceToken_9 : List UInt8 := dkwX6_advanceToken_9 ++ dktX6_advanceToken_10
def dkwX6_advanceToken_8 : List UInt8 := [42, 42, 180, 0, 159, 182, 0, 156, 96, 16, 48, 100, 167, 0, 7, 42, 180, 0, 165, 181, 0, 165, 42, 89]
abbrev dktX6_advanceToken_8 : List UInt8 := dkwX6_advanceToken_8 ++ dktX6_advanceToken_9
def dkwX6_advanceToken_7 : List UInt8 := [153, 0, 59, 42, 42, 180, 0, 159, 42, 180, 0, 162, 100, 6, 162, 0, 25, 16, 10, 42, 180, 0, 165, 104]
abbrev dktX6_advanceToken_7 : List UInt8 := dkwX6_advanceToken_7 ++ dktX6_advanceToken_8
def dkwX6_advanceToken_6 : List UInt8 := [16, 57, 184, 0, 152, 153, 0, 102, 42, 42, 180, 0, 159, 182, 0, 156, 16, 48, 16, 57, 184, 0, 152]
abbrev dktX6_advanceToken_6 : List UInt8 := dkwX6_advanceToken_6 ++ dktX6_advanceToken_7
def dkwX6_advanceToken_5 : List UInt8 := [180, 0, 162, 100, 16, 8, 164, 0, 7, 7, 167, 0, 4, 4, 181, 0, 168, 167, 0, 138, 27, 16, 48]
abbrev dktX6_advanceToken_5 : List UInt8 := dkwX6_advanceToken_5 ++ dktX6_advanceToken_6
def dkwX6_advanceToken_4 : List UInt8 := [153, 0, 16, 42, 89, 180, 0, 159, 4, 96, 181, 0, 159, 167, 255, 235, 42, 42, 180, 0, 159, 42]
abbrev dktX6_advanceToken_4 : List UInt8 := dkwX6_advanceToken_4 ++ dktX6_advanceToken_5
def dkwX6_advanceToken_3 : List UInt8 := [167, 0, 199, 42, 42, 180, 0, 159, 182, 0, 171, 153, 0, 53, 42, 42, 180, 0, 159, 182, 0, 171]
abbrev dktX6_advanceToken_3 : List UInt8 := dkwX6_advanceToken_3 ++ dktX6_advanceToken_4
def dkwX6_advanceToken_2 : List UInt8 := [42, 42, 180, 0, 159, 182, 0, 156, 60, 42, 3, 181, 0, 165, 27, 2, 160, 0, 11, 42, 3, 181, 0, 168]
abbrev dktX6_advanceToken_2 : List UInt8 := dkwX6_advanceToken_2 ++ dktX6_advanceToken_3
def dkwX6_advanceToken_1 : List UInt8 := [160, 0, 16, 42, 89, 180, 0, 159, 4, 96, 181, 0, 159, 167, 255, 220, 42, 42, 180, 0, 159, 181, 0, 162]
abbrev dktX6_advanceToken_1 : List UInt8 := dkwX6_advanceToken_1 ++ dktX6_advanceToken_2
def dkwX6_advanceToken_0 : List UInt8 := [42, 42, 180, 0, 159, 182, 0, 156, 16, 32, 159, 0, 16, 42, 42, 180, 0, 159, 182, 0, 156, 16, 10]
abbrev dktX6_advanceToken_0 : List UInt8 := dkwX6_advanceToken_0 ++ dktX6_advanceToken_1
theorem dksX6_advanceToken_0 : cX6_advanceToken.data.toList.drop 0 = dktX6_advanceToken_0 := by decide +kernel
theorem dksX6_advanceToken_1 : cX6_advanceToken.data.toList.drop 23 = dktX6_advanceToken_1 := dk_seg dksX6_advanceToken_0 23 rfl rfl
theorem dksX6_advanceToken_2 : cX6_advanceToken.data.toList.drop 47 = dktX6_advanceToken_2 := dk_seg dksX6_advanceToken_1 24 rfl rfl
theorem dksX6_advanceToken_3 : cX6_advanceToken.data.toList.drop 71 = dktX6_advanceToken_3 := dk_seg dksX6_advanceToken_2 24 rfl rfl
theorem dksX6_advanceToken_4 : cX6_advanceToken.data.toList.drop 93 = dktX6_advanceToken_4 := dk_seg dksX6_advanceToken_3 22 rfl rfl
theorem dksX6_advanceToken_5 : cX6_advanceToken.data.toList.drop 115 = dktX6_advanceToken_5 := dk_seg dksX6_advanceToken_4 22 rfl rfl
theorem dksX6_advanceToken_6 : cX6_advanceToken.data.toList.drop 138 = dktX6_advanceToken_6 := dk_seg dksX6_advanceToken_5 23 rfl rfl
theorem dksX6_advanceToken_7 : cX6_advanceToken.data.toList.drop 161 = dktX6_advanceToken_7 := dk_seg dksX6_advanceToken_6 23 rfl rfl
theorem dksX6_advanceToken_8 : cX6_advanceToken.data.toList.drop 185 = dktX6_advanceToken_8 := dk_seg dksX6_advanceToken_7 24 rfl rfl
theorem dksX6_advanceToken_9 : cX6_advanceToken.data.toList.drop 209 = dktX6_advanceToken_9 := dk_seg dksX6_advanceToken_8 24 rfl rfl
theorem dksX6_advanceToken_10 : cX6_advanceToken.data.toList.drop 231 = dktX6_advanceToken_10 := dk_seg dksX6_advanceToken_9 22 rfl rfl
theorem dksX6_advanceToken_11 : cX6_advanceToken.data.toList.drop 253 = dktX6_advanceToken_11 := dk_seg dksX6_advanceToken_10 22 rfl rfl
theorem dX6_advanceToken_0 : decode cX6_advanceToken 0 = .ok (.aload_n 0, 1) := dk_42 (dk_at dksX6_advanceToken_0 0 rfl rfl)
theorem dX6_advanceToken_1 : decode cX6_advanceToken 1 = .ok (.aload_n 0, 1) := dk_42 (dk_at dksX6_advanceToken_0 1 rfl rfl)
theorem dX6_advanceToken_2 : decode cX6_advanceToken 2 = .ok (.getfield 159, 3) := dk_180 0 159 (dk_at dksX6_advanceToken_0 2 rfl rfl)
theorem dX6_advanceToken_5 : decode cX6_advanceToken 5 = .ok (.invokevirtual 156, 3) := dk_182 0 156 (dk_at dksX6_advanceToken_0 5 rfl rfl)
theorem dX6_advanceToken_8 : decode cX6_advanceToken 8 = .ok (.bipush 32, 2) := dk_16 32 (dk_at dksX6_advanceToken_0 8 rfl rfl)
theorem dX6_advanceToken_10 : decode cX6_advanceToken 10 = .ok (.if_icmp .eq 16, 3) := dk_159 0 16 (dk_at dksX6_advanceToken_0 10 rfl rfl)
theorem dX6_advanceToken_13 : decode cX6_advanceToken 13 = .ok (.aload_n 0, 1) := dk_42 (dk_at dksX6_advanceToken_0 13 rfl rfl)
theorem dX6_advanceToken_14 : decode cX6_advanceToken 14 = .ok (.aload_n 0, 1) := dk_42 (dk_at dksX6_advanceToken_0 14 rfl rfl)
theorem dX6_advanceToken_15 : decode cX6_advanceToken 15 = .ok (.getfield 159, 3) := dk_180 0 159 (dk_at dksX6_advanceToken_0 15 rfl rfl)
theorem dX6_advanceToken_18 : decode cX6_advanceToken 18 = .ok (.invokevirtual 156, 3) := dk_182 0 156 (dk_at dksX6_advanceToken_0 18 rfl rfl)
theorem dX6_advanceToken_21 : decode cX6_advanceToken 21 = .ok (.bipush 10, 2) := dk_16 10 (dk_at dksX6_advanceToken_0 21 rfl rfl)
theorem dX6_advanceToken_23 : decode cX6_advanceToken 23 = .ok (.if_icmp .ne 16, 3) := dk_160 0 16 (dk_at dksX6_advanceToken_1 0 rfl rfl)
theorem dX6_advanceToken_26 : decode cX6_advanceToken 26 = .ok (.aload_n 0, 1) := dk_42 (dk_at dksX6_advanceToken_1 3 rfl rfl)
theorem dX6_advanceToken_27 : decode cX6_advanceToken 27 = .ok (.dup, 1) := dk_89 (dk_at dksX6_advanceToken_1 4 rfl rfl)
theorem dX6_advanceToken_28 : decode cX6_advanceToken 28 = .ok (.getfield 159, 3) := dk_180 0 159 (dk_at dksX6_advanceToken_1 5 rfl rfl)
theorem dX6_advanceToken_31 : decode cX6_advanceToken 31 = .ok (.iconst 1, 1) := dk_4 (dk_at dksX6_advanceToken_1 8 rfl rfl)
theorem dX6_advanceToken_32 : decode cX6_advanceToken 32 = .ok (.iadd, 1) := dk_96 (dk_at dksX6_advanceToken_1 9 rfl rfl)
theorem dX6_advanceToken_33 : decode cX6_advanceToken 33 = .ok (.putfield 159, 3) := dk_181 0 159 (dk_at dksX6_advanceToken_1 10 rfl rfl)
theorem dX6_advanceToken_36 : decode cX6_advanceToken 36 = .ok (.goto (-36), 3) := dk_167 255 220 (dk_at dksX6_advanceToken_1 13 rfl rfl)
theorem dX6_advanceToken_39 : decode cX6_advanceToken 39 = .ok (.aload_n 0, 1) := dk_42 (dk_at dksX6_advanceToken_1 16 rfl rfl)
theorem dX6_advanceToken_40 : decode cX6_advanceToken 40 = .ok (.aload_n 0, 1) := dk_42 (dk_at dksX6_advanceToken_1 17 rfl rfl)
theorem dX6_advanceToken_41 : decode cX6_advanceToken 41 = .ok (.getfield 159, 3) := dk_180 0 159 (dk_at dksX6_advanceToken_1 18 rfl rfl)
theorem dX6_advanceToken_44 : decode cX6_advanceToken 44 = .ok (.putfield 162, 3) := dk_181 0 162 (dk_at dksX6_advanceToken_1 21 rfl rfl)
theorem dX6_advanceToken_47 : decode cX6_advanceToken 47 = .ok (.aload_n 0, 1) := dk_42 (dk_at dksX6_advanceToken_2 0 rfl rfl)
theorem dX6_advanceToken_48 : decode cX6_advanceToken 48 = .ok (.aload_n 0, 1) := dk_42 (dk_at dksX6_advanceToken_2 1 rfl rfl)
theorem dX6_advanceToken_49 : decode cX6_advanceToken 49 = .ok (.getfield 159, 3) := dk_180 0 159 (dk_at dksX6_advanceToken_2 2 rfl rfl)
theorem dX6_advanceToken_52 : decode cX6_advanceToken 52 = .ok (.invokevirtual 156, 3) := dk_182 0 156 (dk_at dksX6_advanceToken_2 5 rfl rfl)
theorem dX6_advanceToken_55 : decode cX6_advanceToken 55 = .ok (.istore_n 1, 1) := dk_60 (dk_at dksX6_advanceToken_2 8 rfl rfl)
theorem dX6_advanceToken_56 : decode cX6_advanceToken 56 = .ok (.aload_n 0, 1) := dk_42 (dk_at dksX6_advanceToken_2 9 rfl rfl)
theorem dX6_advanceToken_57 : decode cX6_advanceToken 57 = .ok (.iconst 0, 1) := dk_3 (dk_at dksX6_advanceToken_2 10 rfl rfl)
theorem dX6_advanceToken_58 : decode cX6_advanceToken 58 = .ok (.putfield 165, 3) := dk_181 0 165 (dk_at dksX6_advanceToken_2 11 rfl rfl)
theorem dX6_advanceToken_61 : decode cX6_advanceToken 61 = .ok (.iload_n 1, 1) := dk_27 (dk_at dksX6_advanceToken_2 14 rfl rfl)
theorem dX6_advanceToken_62 : decode cX6_advanceToken 62 = .ok (.iconst (-1), 1) := dk_2 (dk_at dksX6_advanceToken_2 15 rfl rfl)
theorem dX6_advanceToken_63 : decode cX6_advanceToken 63 = .ok (.if_icmp .ne 11, 3) := dk_160 0 11 (dk_at dksX6_advanceToken_2 16 rfl rfl)
theorem dX6_advanceToken_66 : decode cX6_advanceToken 66 = .ok (.aload_n 0, 1) := dk_42 (dk_at dksX6_advanceToken_2 19 rfl rfl)
theorem dX6_advanceToken_67 : decode cX6_advanceToken 67 = .ok (.iconst 0, 1) := dk_3 (dk_at dksX6_advanceToken_2 20 rfl rfl)
theorem dX6_advanceToken_68 : decode cX6_advanceToken 68 = .ok (.putfield 168, 3) := dk_181 0 168 (dk_at dksX6_advanceToken_2 21 rfl rfl)
theorem dX6_advanceToken_71 : decode cX6_advanceToken 71 = .ok (.goto 199, 3) := dk_167 0 199 (dk_at dksX6_advanceToken_3 0 rfl rfl)
theorem dX6_advanceToken_74 : decode cX6_advanceToken 74 = .ok (.aload_n 0, 1) := dk_42 (dk_at dksX6_advanceToken_3 3 rfl rfl)
theorem dX6_advanceToken_75 : decode cX6_advanceToken 75 = .ok (.aload_n 0, 1) := dk_42 (dk_at dksX6_advanceToken_3 4 rfl rfl)
theorem dX6_advanceToken_76 : decode cX6_advanceToken 76 = .ok (.getfield 159, 3) := dk_180 0 159 (dk_at dksX6_advanceToken_3 5 rfl rfl)
theorem dX6_advanceToken_79 : decode cX6_advanceToken 79 = .ok (.invokevirtual 171, 3) := dk_182 0 171 (dk_at dksX6_advanceToken_3 8 rfl rfl)
theorem dX6_advanceToken_82 : decode cX6_advanceToken 82 = .ok (.ifCond .eq 53, 3) := dk_153 0 53 (dk_at dksX6_advanceToken_3 11 rfl rfl)
theorem dX6_advanceToken_85 : decode cX6_advanceToken 85 = .ok (.aload_n 0, 1) := dk_42 (dk_at dksX6_advanceToken_3 14 rfl rfl)
theorem dX6_advanceToken_86 : decode cX6_advanceToken 86 = .ok (.aload_n 0, 1) := dk_42 (dk_at dksX6_advanceToken_3 15 rfl rfl)
theorem dX6_advanceToken_87 : decode cX6_advanceToken 87 = .ok (.getfield 159, 3) := dk_180 0 159 (dk_at dksX6_advanceToken_3 16 rfl rfl)
theorem dX6_advanceToken_90 : decode cX6_advanceToken 90 = .ok (.invokevirtual 171, 3) := dk_182 0 171 (dk_at dksX6_advanceToken_3 19 rfl rfl)
theorem dX6_advanceToken_93 : decode cX6_advanceToken 93 = .ok (.ifCond .eq 16, 3) := dk_153 0 16 (dk_at dksX6_advanceToken_4 0 rfl rfl)
theorem dX6_advanceToken_96 : decode cX6_advanceToken 96 = .ok (.aload_n 0, 1) := dk_42 (dk_at dksX6_advanceToken_4 3 rfl rfl)
theorem dX6_advanceToken_97 : decode cX6_advanceToken 97 = .ok (.dup, 1) := dk_89 (dk_at dksX6_advanceToken_4 4 rfl rfl)
theorem dX6_advanceToken_98 : decode cX6_advanceToken 98 = .ok (.getfield 159, 3) := dk_180 0 159 (dk_at dksX6_advanceToken_4 5 rfl rfl)
theorem dX6_advanceToken_101 : decode cX6_advanceToken 101 = .ok (.iconst 1, 1) := dk_4 (dk_at dksX6_advanceToken_4 8 rfl rfl)
theorem dX6_advanceToken_102 : decode cX6_advanceToken 102 = .ok (.iadd, 1) := dk_96 (dk_at dksX6_advanceToken_4 9 rfl rfl)
theorem dX6_advanceToken_103 : decode cX6_advanceToken 103 = .ok (.putfield 159, 3) := dk_181 0 159 (dk_at dksX6_advanceToken_4 10 rfl rfl)
theorem dX6_advanceToken_106 : decode cX6_advanceToken 106 = .ok (.goto (-21), 3) := dk_167 255 235 (dk_at dksX6_advanceToken_4 13 rfl rfl)
theorem dX6_advanceToken_109 : decode cX6_advanceToken 109 = .ok (.aload_n 0, 1) := dk_42 (dk_at dksX6_advanceToken_4 16 rfl rfl)
theorem dX6_advanceToken_110 : decode cX6_advanceToken 110 = .ok (.aload_n 0, 1) := dk_42 (dk_at dksX6_advanceToken_4 17 rfl rfl)
theorem dX6_advanceToken_111 : decode cX6_advanceToken 111 = .ok (.getfield 159, 3) := dk_180 0 159 (dk_at dksX6_advanceToken_4 18 rfl rfl)
theorem dX6_advanceToken_114 : decode cX6_advanceToken 114 = .ok (.aload_n 0, 1) := dk_42 (dk_at dksX6_advanceToken_4 21 rfl rfl)
theorem dX6_advanceToken_115 : decode cX6_advanceToken 115 = .ok (.getfield 162, 3) := dk_180 0 162 (dk_at dksX6_advanceToken_5 0 rfl rfl)
theorem dX6_advanceToken_118 : decode cX6_advanceToken 118 = .ok (.isub, 1) := dk_100 (dk_at dksX6_advanceToken_5 3 rfl rfl)
theorem dX6_advanceToken_119 : decode cX6_advanceToken 119 = .ok (.bipush 8, 2) := dk_16 8 (dk_at dksX6_advanceToken_5 4 rfl rfl)
theorem dX6_advanceToken_121 : decode cX6_advanceToken 121 = .ok (.if_icmp .le 7, 3) := dk_164 0 7 (dk_at dksX6_advanceToken_5 6 rfl rfl)
theorem dX6_advanceToken_124 : decode cX6_advanceToken 124 = .ok (.iconst 4, 1) := dk_7 (dk_at dksX6_advanceToken_5 9 rfl rfl)
theorem dX6_advanceToken_125 : decode cX6_advanceToken 125 = .ok (.goto 4, 3) := dk_167 0 4 (dk_at dksX6_advanceToken_5 10 rfl rfl)
theorem dX6_advanceToken_128 : decode cX6_advanceToken 128 = .ok (.iconst 1, 1) := dk_4 (dk_at dksX6_advanceToken_5 13 rfl rfl)
theorem dX6_advanceToken_129 : decode cX6_advanceToken 129 = .ok (.putfield 168, 3) := dk_181 0 168 (dk_at dksX6_advanceToken_5 14 rfl rfl)
theorem dX6_advanceToken_132 : decode cX6_advanceToken 132 = .ok (.goto 138, 3) := dk_167 0 138 (dk_at dksX6_advanceToken_5 17 rfl rfl)
theorem dX6_advanceToken_135 : decode cX6_advanceToken 135 = .ok (.iload_n 1, 1) := dk_27 (dk_at dksX6_advanceToken_5 20 rfl rfl)
theorem dX6_advanceToken_136 : decode cX6_advanceToken 136 = .ok (.bipush 48, 2) := dk_16 48 (dk_at dksX6_advanceToken_5 21 rfl rfl)
theorem dX6_advanceToken_138 : decode cX6_advanceToken 138 = .ok (.bipush 57, 2) := dk_16 57 (dk_at dksX6_advanceToken_6 0 rfl rfl)
theorem dX6_advanceToken_140 : decode cX6_advanceToken 140 = .ok (.invokestatic 152, 3) := dk_184 0 152 (dk_at dksX6_advanceToken_6 2 rfl rfl)
theorem dX6_advanceToken_143 : decode cX6_advanceToken 143 = .ok (.ifCond .eq 102, 3) := dk_153 0 102 (dk_at dksX6_advanceToken_6 5 rfl rfl)
theorem dX6_advanceToken_146 : decode cX6_advanceToken 146 = .ok (.aload_n 0, 1) := dk_42 (dk_at dksX6_advanceToken_6 8 rfl rfl)
theorem dX6_advanceToken_147 : decode cX6_advanceToken 147 = .ok (.aload_n 0, 1) := dk_42 (dk_at dksX6_advanceToken_6 9 rfl rfl)
theorem dX6_advanceToken_148 : decode cX6_advanceToken 148 = .ok (.getfield 159, 3) := dk_180 0 159 (dk_at dksX6_advanceToken_6 10 rfl rfl)
theorem dX6_advanceToken_151 : decode cX6_advanceToken 151 = .ok (.invokevirtual 156, 3) := dk_182 0 156 (dk_at dksX6_advanceToken_6 13 rfl rfl)
theorem dX6_advanceToken_154 : decode cX6_advanceToken 154 = .ok (.bipush 48, 2) := dk_16 48 (dk_at dksX6_advanceToken_6 16 rfl rfl)
theorem dX6_advanceToken_156 : decode cX6_advanceToken 156 = .ok (.bipush 57, 2) := dk_16 57 (dk_at dksX6_advanceToken_6 18 rfl rfl)
theorem dX6_advanceToken_158 : decode cX6_advanceToken 158 = .ok (.invokestatic 152, 3) := dk_184 0 152 (dk_at dksX6_advanceToken_6 20 rfl rfl)
theorem dX6_advanceToken_161 : decode cX6_advanceToken 161 = .ok (.ifCond .eq 59, 3) := dk_153 0 59 (dk_at dksX6_advanceToken_7 0 rfl rfl)
theorem dX6_advanceToken_164 : decode cX6_advanceToken 164 = .ok (.aload_n 0, 1) := dk_42 (dk_at dksX6_advanceToken_7 3 rfl rfl)
theorem dX6_advanceToken_165 : decode cX6_advanceToken 165 = .ok (.aload_n 0, 1) := dk_42 (dk_at dksX6_advanceToken_7 4 rfl rfl)
theorem dX6_advanceToken_166 : decode cX6_advanceToken 166 = .ok (.getfield 159, 3) := dk_180 0 159 (dk_at dksX6_advanceToken_7 5 rfl rfl)
theorem dX6_advanceToken_169 : decode cX6_advanceToken 169 = .ok (.aload_n 0, 1) := dk_42 (dk_at dksX6_advanceToken_7 8 rfl rfl)
theorem dX6_advanceToken_170 : decode cX6_advanceToken 170 = .ok (.getfield 162, 3) := dk_180 0 162 (dk_at dksX6_advanceToken_7 9 rfl rfl)
theorem dX6_advanceToken_173 : decode cX6_advanceToken 173 = .ok (.isub, 1) := dk_100 (dk_at dksX6_advanceToken_7 12 rfl rfl)
theorem dX6_advanceToken_174 : decode cX6_advanceToken 174 = .ok (.iconst 3, 1) := dk_6 (dk_at dksX6_advanceToken_7 13 rfl rfl)
theorem dX6_advanceToken_175 : decode cX6_advanceToken 175 = .ok (.if_icmp .ge 25, 3) := dk_162 0 25 (dk_at dksX6_advanceToken_7 14 rfl rfl)
theorem dX6_advanceToken_178 : decode cX6_advanceToken 178 = .ok (.bipush 10, 2) := dk_16 10 (dk_at dksX6_advanceToken_7 17 rfl rfl)
theorem dX6_advanceToken_180 : decode cX6_advanceToken 180 = .ok (.aload_n 0, 1) := dk_42 (dk_at dksX6_advanceToken_7 19 rfl rfl)
theorem dX6_advanceToken_181 : decode cX6_advanceToken 181 = .ok (.getfield 165, 3) := dk_180 0 165 (dk_at dksX6_advanceToken_7 20 rfl rfl)
theorem dX6_advanceToken_184 : decode cX6_advanceToken 184 = .ok (.imul, 1) := dk_104 (dk_at dksX6_advanceToken_7 23 rfl rfl)
theorem dX6_advanceToken_185 : decode cX6_advanceToken 185 = .ok (.aload_n 0, 1) := dk_42 (dk_at dksX6_advanceToken_8 0 rfl rfl)
theorem dX6_advanceToken_186 : decode cX6_advanceToken 186 = .ok (.aload_n 0, 1) := dk_42 (dk_at dksX6_advanceToken_8 1 rfl rfl)
theorem dX6_advanceToken_187 : decode cX6_advanceToken 187 = .ok (.getfield 159, 3) := dk_180 0 159 (dk_at dksX6_advanceToken_8 2 rfl rfl)
theorem dX6_advanceToken_190 : decode cX6_advanceToken 190 = .ok (.invokevirtual 156, 3) := dk_182 0 156 (dk_at dksX6_advanceToken_8 5 rfl rfl)
theorem dX6_advanceToken_193 : decode cX6_advanceToken 193 = .ok (.iadd, 1) := dk_96 (dk_at dksX6_advanceToken_8 8 rfl rfl)
theorem dX6_advanceToken_194 : decode cX6_advanceToken 194 = .ok (.bipush 48, 2) := dk_16 48 (dk_at dksX6_advanceToken_8 9 rfl rfl)
theorem dX6_advanceToken_196 : decode cX6_advanceToken 196 = .ok (.isub, 1) := dk_100 (dk_at dksX6_advanceToken_8 11 rfl rfl)
theorem dX6_advanceToken_197 : decode cX6_advanceToken 197 = .ok (.goto 7, 3) := dk_167 0 7 (dk_at dksX6_advanceToken_8 12 rfl rfl)
theorem dX6_advanceToken_200 : decode cX6_advanceToken 200 = .ok (.aload_n 0, 1) := dk_42 (dk_at dksX6_advanceToken_8 15 rfl rfl)
theorem dX6_advanceToken_201 : decode cX6_advanceToken 201 = .ok (.getfield 165, 3) := dk_180 0 165 (dk_at dksX6_advanceToken_8 16 rfl rfl)
theorem dX6_advanceToken_204 : decode cX6_advanceToken 204 = .ok (.putfield 165, 3) := dk_181 0 165 (dk_at dksX6_advanceToken_8 19 rfl rfl)
theorem dX6_advanceToken_207 : decode cX6_advanceToken 207 = .ok (.aload_n 0, 1) := dk_42 (dk_at dksX6_advanceToken_8 22 rfl rfl)
theorem dX6_advanceToken_208 : decode cX6_advanceToken 208 = .ok (.dup, 1) := dk_89 (dk_at dksX6_advanceToken_8 23 rfl rfl)
theorem dX6_advanceToken_209 : decode cX6_advanceToken 209 = .ok (.getfield 159, 3) := dk_180 0 159 (dk_at dksX6_advanceToken_9 0 rfl rfl)
theorem dX6_advanceToken_212 : decode cX6_advanceToken 212 = .ok (.iconst 1, 1) := dk_4 (dk_at dksX6_advanceToken_9 3 rfl rfl)
theorem dX6_advanceToken_213 : decode cX6_advanceToken 213 = .ok (.iadd, 1) := dk_96 (dk_at dksX6_advanceToken_9 4 rfl rfl)
theorem dX6_advanceToken_214 : decode cX6_advanceToken 214 = .ok (.putfield 159, 3) := dk_181 0 159 (dk_at dksX6_advanceToken_9 5 rfl rfl)
theorem dX6_advanceToken_217 : decode cX6_advanceToken 217 = .ok (.goto (-71), 3) := dk_167 255 185 (dk_at dksX6_advanceToken_9 8 rfl rfl)
theorem dX6_advanceToken_220 : decode cX6_advanceToken 220 = .ok (.aload_n 0, 1) := dk_42 (dk_at dksX6_advanceToken_9 11 rfl rfl)
theorem dX6_advanceToken_221 : decode cX6_advanceToken 221 = .ok (.aload_n 0, 1) := dk_42 (dk_at dksX6_advanceToken_9 12 rfl rfl)
theorem dX6_advanceToken_222 : decode cX6_advanceToken 222 = .ok (.getfield 159, 3) := dk_180 0 159 (dk_at dksX6_advanceToken_9 13 rfl rfl)
theorem dX6_advanceToken_225 : decode cX6_advanceToken 225 = .ok (.aload_n 0, 1) := dk_42 (dk_at dksX6_advanceToken_9 16 rfl rfl)
theorem dX6_advanceToken_226 : decode cX6_advanceToken 226 = .ok (.getfield 162, 3) := dk_180 0 162 (dk_at dksX6_advanceToken_9 17 rfl rfl)
theorem dX6_advanceToken_229 : decode cX6_advanceToken 229 = .ok (.isub, 1) := dk_100 (dk_at dksX6_advanceToken_9 20 rfl rfl)
theorem dX6_advanceToken_230 : decode cX6_advanceToken 230 = .ok (.iconst 3, 1) := dk_6 (dk_at dksX6_advanceToken_9 21 rfl rfl)
theorem dX6_advanceToken_231 : decode cX6_advanceToken 231 = .ok (.if_icmp .le 7, 3) := dk_164 0 7 (dk_at dksX6_advanceToken_10 0 rfl rfl)
theorem dX6_advanceToken_234 : decode cX6_advanceToken 234 = .ok (.iconst 4, 1) := dk_7 (dk_at dksX6_advanceToken_10 3 rfl rfl)
theorem dX6_advanceToken_235 : decode cX6_advanceToken 235 = .ok (.goto 4, 3) := dk_167 0 4 (dk_at dksX6_advanceToken_10 4 rfl rfl)
theorem dX6_advanceToken_238 : decode cX6_advanceToken 238 = .ok (.iconst 2, 1) := dk_5 (dk_at dksX6_advanceToken_10 7 rfl rfl)
theorem dX6_advanceToken_239 : decode cX6_advanceToken 239 = .ok (.putfield 168, 3) := dk_181 0 168 (dk_at dksX6_advanceToken_10 8 rfl rfl)
theorem dX6_advanceToken_242 : decode cX6_advanceToken 242 = .ok (.goto 28, 3) := dk_167 0 28 (dk_at dksX6_advanceToken_10 11 rfl rfl)
theorem dX6_advanceToken_245 : decode cX6_advanceToken 245 = .ok (.aload_n 0, 1) := dk_42 (dk_at dksX6_advanceToken_10 14 rfl rfl)
theorem dX6_advanceToken_246 : decode cX6_advanceToken 246 = .ok (.iload_n 1, 1) := dk_27 (dk_at dksX6_advanceToken_10 15 rfl rfl)
theorem dX6_advanceToken_247 : decode cX6_advanceToken 247 = .ok (.bipush 59, 2) := dk_16 59 (dk_at dksX6_advanceToken_10 16 rfl rfl)
theorem dX6_advanceToken_249 : decode cX6_advanceToken 249 = .ok (.if_icmp .ne 7, 3) := dk_160 0 7 (dk_at dksX6_advanceToken_10 18 rfl rfl)
theorem dX6_advanceToken_252 : decode cX6_advanceToken 252 = .ok (.iconst 3, 1) := dk_6 (dk_at dksX6_advanceToken_10 21 rfl rfl)
theorem dX6_advanceToken_253 : decode cX6_advanceToken 253 = .ok (.goto 4, 3) := dk_167 0 4 (dk_at dksX6_advanceToken_11 0 rfl rfl)
theorem dX6_advanceToken_256 : decode cX6_advanceToken 256 = .ok (.iconst 4, 1) := dk_7 (dk_at dksX6_advanceToken_11 3 rfl rfl)
theorem dX6_advanceToken_257 : decode cX6_advanceToken 257 = .ok (.putfield 168, 3) := dk_181 0 168 (dk_at dksX6_advanceToken_11 4 rfl rfl)
theorem dX6_advanceToken_260 : decode cX6_advanceToken 260 = .ok (.aload_n 0, 1) := dk_42 (dk_at dksX6_advanceToken_11 7 rfl rfl)
theorem dX6_advanceToken_261 : decode cX6_advanceToken 261 = .ok (.dup, 1) := dk_89 (dk_at dksX6_advanceToken_11 8 rfl rfl)
theorem dX6_advanceToken_262 : decode cX6_advanceToken 262 = .ok (.getfield 159, 3) := dk_180 0 159 (dk_at dksX6_advanceToken_11 9 rfl rfl)
theorem dX6_advanceToken_265 : decode cX6_advanceToken 265 = .ok (.iconst 1, 1) := dk_4 (dk_at dksX6_advanceToken_11 12 rfl rfl)
theorem dX6_advanceToken_266 : decode cX6_advanceToken 266 = .ok (.iadd, 1) := dk_96 (dk_at dksX6_advanceToken_11 13 rfl rfl)
theorem dX6_advanceToken_267 : decode cX6_advanceToken 267 = .ok (.putfield 159, 3) := dk_181 0 159 (dk_at dksX6_advanceToken_11 14 rfl rfl)
theorem dX6_advanceToken_270 : decode cX6_advanceToken 270 = .ok (.return_, 1) := dk_177 (dk_at dksX6_advanceToken_11 17 rfl rfl)
abbrev cX6_byteAt : ByteArray := prog_19_method_45_code
def yX6_byteAt : MethodName := ⟨RX6, "byteAt", "(I)I"⟩
def dkwX6_byteAt_0 : List UInt8 := [27, 42, 180, 0, 146, 162, 0, 12, 42, 180, 0, 25, 27, 46, 167, 0, 4, 2, 172]
abbrev dktX6_byteAt_0 : List UInt8 := dkwX6_byteAt_0 ++ []
theorem dksX6_byteAt_0 : cX6_byteAt.data.toList.drop 0 = dktX6_byteAt_0 := by decide +kernel
theorem dX6_byteAt_0 : decode cX6_byteAt 0 = .ok (.iload_n 1, 1) := dk_27 (dk_at dksX6_byteAt_0 0 rfl rfl)
theorem dX6_byteAt_1 : decode cX6_byteAt 1 = .ok (.aload_n 0, 1) := dk_42 (dk_at dksX6_byteAt_0 1 rfl rfl)
theorem dX6_byteAt_2 : decode cX6_byteAt 2 = .ok (.getfield 146, 3) := dk_180 0 146 (dk_at dksX6_byteAt_0 2 rfl rfl)
theorem dX6_byteAt_5 : decode cX6_byteAt 5 = .ok (.if_icmp .ge 12, 3) := dk_162 0 12 (dk_at dksX6_byteAt_0 5 rfl rfl)
theorem dX6_byteAt_8 : decode cX6_byteAt 8 = .ok (.aload_n 0, 1) := dk_42 (dk_at dksX6_byteAt_0 8 rfl rfl)
theorem dX6_byteAt_9 : decode cX6_byteAt 9 = .ok (.getfield 25, 3) := dk_180 0 25 (dk_at dksX6_byteAt_0 9 rfl rfl)
theorem dX6_byteAt_12 : decode cX6_byteAt 12 = .ok (.iload_n 1, 1) := dk_27 (dk_at dksX6_byteAt_0 12 rfl rfl)
theorem dX6_byteAt_13 : decode cX6_byteAt 13 = .ok (.iaload, 1) := dk_46 (dk_at dksX6_byteAt_0 13 rfl rfl)
theorem dX6_byteAt_14 : decode cX6_byteAt 14 = .ok (.goto 4, 3) := dk_167 0 4 (dk_at dksX6_byteAt_0 14 rfl rfl)
theorem dX6_byteAt_17 : decode cX6_byteAt 17 = .ok (.iconst (-1), 1) := dk_2 (dk_at dksX6_byteAt_0 17 rfl rfl)
theorem dX6_byteAt_18 : decode cX6_byteAt 18 = .ok (.ireturn, 1) := dk_172 (dk_at dksX6_byteAt_0 18 rfl rfl)
abbrev cX6_isLetter : ByteArray := prog_19_method_46_code
def yX6_isLetter : MethodName := ⟨RX6, "isLetter", "(I)Z"⟩
def dkwX6_isLetter_0 : List UInt8 := [42, 27, 182, 0, 156, 16, 97, 16, 122, 184, 0, 152, 172]
abbrev dktX6_isLetter_0 : List UInt8 := dkwX6_isLetter_0 ++ []
theorem dksX6_isLetter_0 : cX6_isLetter.data.toList.drop 0 = dktX6_isLetter_0 := by decide +kernel
theorem dX6_isLetter_0 : decode cX6_isLetter 0 = .ok (.aload_n 0, 1) := dk_42 (dk_at dksX6_isLetter_0 0 rfl rfl)
theorem dX6_isLetter_1 : decode cX6_isLetter 1 = .ok (.iload_n 1, 1) := dk_27 (dk_at dksX6_isLetter_0 1 rfl rfl)
theorem dX6_isLetter_2 : decode cX6_isLetter 2 = .ok (.invokevirtual 156, 3) := dk_182 0 156 (dk_at dksX6_isLetter_0 2 rfl rfl)
theorem dX6_isLetter_5 : decode cX6_isLetter 5 = .ok (.bipush 97, 2) := dk_16 97 (dk_at dksX6_isLetter_0 5 rfl rfl)
theorem dX6_isLetter_7 : decode cX6_isLetter 7 = .ok (.bipush 122, 2) := dk_16 122 (dk_at dksX6_isLetter_0 7 rfl rfl)
theorem dX6_isLetter_9 : decode cX6_isLetter 9 = .ok (.invokestatic 152, 3) := dk_184 0 152 (dk_at dksX6_isLetter_0 9 rfl rfl)
theorem dX6_isLetter_12 : decode cX6_isLetter 12 = .ok (.ireturn, 1) := dk_172 (dk_at dksX6_isLetter_0 12 rfl rfl)
abbrev cX6_readText : ByteArray := prog_19_method_59_code
def yX6_readText : MethodName := ⟨RX6, "readText", "()Z"⟩
def dkwX6_readText_1 : List UInt8 := [172, 42, 180, 0, 7, 6, 46, 157, 0, 11, 42, 8, 182, 0, 190, 153, 0, 7, 4, 167, 0, 4, 3, 172]
abbrev dktX6_readText_1 : List UInt8 := dkwX6_readText_1 ++ []
def dkwX6_readText_0 : List UInt8 := [42, 182, 0, 236, 154, 0, 5, 3, 172, 42, 180, 0, 168, 153, 0, 12, 42, 182, 0, 239, 154, 255, 245, 3]
abbrev dktX6_readText_0 : List UInt8 := dkwX6_readText_0 ++ dktX6_readText_1
theorem dksX6_readText_0 : cX6_readText.data.toList.drop 0 = dktX6_readText_0 := by decide +kernel
theorem dksX6_readText_1 : cX6_readText.data.toList.drop 24 = dktX6_readText_1 := dk_seg dksX6_readText_0 24 rfl rfl
theorem dX6_readText_0 : decode cX6_readText 0 = .ok (.aload_n 0, 1) := dk_42 (dk_at dksX6_readText_0 0 rfl rfl)
theorem dX6_readText_1 : decode cX6_readText 1 = .ok (.invokevirtual 236, 3) := dk_182 0 236 (dk_at dksX6_readText_0 1 rfl rfl)
theorem dX6_readText_4 : decode cX6_readText 4 = .ok (.ifCond .ne 5, 3) := dk_154 0 5 (dk_at dksX6_readText_0 4 rfl rfl)
theorem dX6_readText_7 : decode cX6_readText 7 = .ok (.iconst 0, 1) := dk_3 (dk_at dksX6_readText_0 7 rfl rfl)
theorem dX6_readText_8 : decode cX6_readText 8 = .ok (.ireturn, 1) := dk_172 (dk_at dksX6_readText_0 8 rfl rfl)
theorem dX6_readText_9 : decode cX6_readText 9 = .ok (.aload_n 0, 1) := dk_42 (dk_at dksX6_readText_0 9 rfl rfl)
theorem dX6_readText_10 : decode cX6_readText 10 = .ok (.getfield 168, 3) := dk_180 0 168 (dk_at dksX6_readText_0 10 rfl rfl)
theorem dX6_readText_13 : decode cX6_readText 13 = .ok (.ifCond .eq 12, 3) := dk_153 0 12 (dk_at dksX6_readText_0 13 rfl rfl)
theorem dX6_readText_16 : decode cX6_readText 16 = .ok (.aload_n 0, 1) := dk_42 (dk_at dksX6_readText_0 16 rfl rfl)
theorem dX6_readText_17 : decode cX6_readText 17 = .ok (.invokevirtual 239, 3) := dk_182 0 239 (dk_at dksX6_readText_0 17 rfl rfl)
theorem dX6_readText_20 : decode cX6_readText 20 = .ok (.ifCond .ne (-11), 3) := dk_154 255 245 (dk_at dksX6_readText_0 20 rfl rfl)
theorem dX6_readText_23 : decode cX6_readText 23 = .ok (.iconst 0, 1) := dk_3 (dk_at dksX6_readText_0 23 rfl rfl)
theorem dX6_readText_24 : decode cX6_readText 24 = .ok (.ireturn, 1) := dk_172 (dk_at dksX6_readText_1 0 rfl rfl)
theorem dX6_readText_25 : decode cX6_readText 25 = .ok (.aload_n 0, 1) := dk_42 (dk_at dksX6_readText_1 1 rfl rfl)
theorem dX6_readText_26 : decode cX6_readText 26 = .ok (.getfield 7, 3) := dk_180 0 7 (dk_at dksX6_readText_1 2 rfl rfl)
theorem dX6_readText_29 : decode cX6_readText 29 = .ok (.iconst 3, 1) := dk_6 (dk_at dksX6_readText_1 5 rfl rfl)
theorem dX6_readText_30 : decode cX6_readText 30 = .ok (.iaload, 1) := dk_46 (dk_at dksX6_readText_1 6 rfl rfl)
theorem dX6_readText_31 : decode cX6_readText 31 = .ok (.ifCond .gt 11, 3) := dk_157 0 11 (dk_at dksX6_readText_1 7 rfl rfl)
theorem dX6_readText_34 : decode cX6_readText 34 = .ok (.aload_n 0, 1) := dk_42 (dk_at dksX6_readText_1 10 rfl rfl)
theorem dX6_readText_35 : decode cX6_readText 35 = .ok (.iconst 5, 1) := dk_8 (dk_at dksX6_readText_1 11 rfl rfl)
theorem dX6_readText_36 : decode cX6_readText 36 = .ok (.invokevirtual 190, 3) := dk_182 0 190 (dk_at dksX6_readText_1 12 rfl rfl)
theorem dX6_readText_39 : decode cX6_readText 39 = .ok (.ifCond .eq 7, 3) := dk_153 0 7 (dk_at dksX6_readText_1 15 rfl rfl)
theorem dX6_readText_42 : decode cX6_readText 42 = .ok (.iconst 1, 1) := dk_4 (dk_at dksX6_readText_1 18 rfl rfl)
theorem dX6_readText_43 : decode cX6_readText 43 = .ok (.goto 4, 3) := dk_167 0 4 (dk_at dksX6_readText_1 19 rfl rfl)
theorem dX6_readText_46 : decode cX6_readText 46 = .ok (.iconst 0, 1) := dk_3 (dk_at dksX6_readText_1 22 rfl rfl)
theorem dX6_readText_47 : decode cX6_readText 47 = .ok (.ireturn, 1) := dk_172 (dk_at dksX6_readText_1 23 rfl rfl)
abbrev cX6_readLoop : ByteArray := prog_19_method_54_code
def yX6_readLoop : MethodName := ⟨RX6, "readLoop", "()Z"⟩
def dkwX6_readLoop_3 : List UInt8 := [182, 0, 214, 172]
abbrev dktX6_readLoop_3 : List UInt8 := dkwX6_readLoop_3 ++ []
def dkwX6_readLoop_2 : List UInt8 := [154, 0, 5, 3, 172, 42, 42, 180, 0, 32, 3, 46, 42, 180, 0, 32, 4, 46, 182, 0, 47, 42]
abbrev dktX6_readLoop_2 : List UInt8 := dkwX6_readLoop_2 ++ dktX6_readLoop_3
def dkwX6_readLoop_1 : List UInt8 := [16, 40, 182, 0, 211, 153, 0, 20, 42, 4, 3, 42, 180, 0, 32, 3, 46, 4, 100, 182, 0, 211]
abbrev dktX6_readLoop_1 : List UInt8 := dkwX6_readLoop_1 ++ dktX6_readLoop_2
def dkwX6_readLoop_0 : List UInt8 := [42, 18, 205, 182, 0, 207, 154, 0, 9, 42, 4, 182, 0, 190, 172, 42, 182, 0, 199, 42, 3, 16, 6]
abbrev dktX6_readLoop_0 : List UInt8 := dkwX6_readLoop_0 ++ dktX6_readLoop_1
theorem dksX6_readLoop_0 : cX6_readLoop.data.toList.drop 0 = dktX6_readLoop_0 := by decide +kernel
theorem dksX6_readLoop_1 : cX6_readLoop.data.toList.drop 23 = dktX6_readLoop_1 := dk_seg dksX6_readLoop_0 23 rfl rfl
theorem dksX6_readLoop_2 : cX6_readLoop.data.toList.drop 45 = dktX6_readLoop_2 := dk_seg dksX6_readLoop_1 22 rfl rfl
theorem dksX6_readLoop_3 : cX6_readLoop.data.toList.drop 67 = dktX6_readLoop_3 := dk_seg dksX6_readLoop_2 22 rfl rfl
theorem dX6_readLoop_0 : decode cX6_readLoop 0 = .ok (.aload_n 0, 1) := dk_42 (dk_at dksX6_readLoop_0 0 rfl rfl)
theorem dX6_readLoop_1 : decode cX6_readLoop 1 = .ok (.ldc 205, 2) := dk_18 205 (dk_at dksX6_readLoop_0 1 rfl rfl)
theorem dX6_readLoop_3 : decode cX6_readLoop 3 = .ok (.invokevirtual 207, 3) := dk_182 0 207 (dk_at dksX6_readLoop_0 3 rfl rfl)
theorem dX6_readLoop_6 : decode cX6_readLoop 6 = .ok (.ifCond .ne 9, 3) := dk_154 0 9 (dk_at dksX6_readLoop_0 6 rfl rfl)
theorem dX6_readLoop_9 : decode cX6_readLoop 9 = .ok (.aload_n 0, 1) := dk_42 (dk_at dksX6_readLoop_0 9 rfl rfl)
theorem dX6_readLoop_10 : decode cX6_readLoop 10 = .ok (.iconst 1, 1) := dk_4 (dk_at dksX6_readLoop_0 10 rfl rfl)
theorem dX6_readLoop_11 : decode cX6_readLoop 11 = .ok (.invokevirtual 190, 3) := dk_182 0 190 (dk_at dksX6_readLoop_0 11 rfl rfl)
theorem dX6_readLoop_14 : decode cX6_readLoop 14 = .ok (.ireturn, 1) := dk_172 (dk_at dksX6_readLoop_0 14 rfl rfl)
theorem dX6_readLoop_15 : decode cX6_readLoop 15 = .ok (.aload_n 0, 1) := dk_42 (dk_at dksX6_readLoop_0 15 rfl rfl)
theorem dX6_readLoop_16 : decode cX6_readLoop 16 = .ok (.invokevirtual 199, 3) := dk_182 0 199 (dk_at dksX6_readLoop_0 16 rfl rfl)
theorem dX6_readLoop_19 : decode cX6_readLoop 19 = .ok (.aload_n 0, 1) := dk_42 (dk_at dksX6_readLoop_0 19 rfl rfl)
theorem dX6_readLoop_20 : decode cX6_readLoop 20 = .ok (.iconst 0, 1) := dk_3 (dk_at dksX6_readLoop_0 20 rfl rfl)
theorem dX6_readLoop_21 : decode cX6_readLoop 21 = .ok (.bipush 6, 2) := dk_16 6 (dk_at dksX6_readLoop_0 21 rfl rfl)
theorem dX6_readLoop_23 : decode cX6_readLoop 23 = .ok (.bipush 40, 2) := dk_16 40 (dk_at dksX6_readLoop_1 0 rfl rfl)
theorem dX6_readLoop_25 : decode cX6_readLoop 25 = .ok (.invokevirtual 211, 3) := dk_182 0 211 (dk_at dksX6_readLoop_1 2 rfl rfl)
theorem dX6_readLoop_28 : decode cX6_readLoop 28 = .ok (.ifCond .eq 20, 3) := dk_153 0 20 (dk_at dksX6_readLoop_1 5 rfl rfl)
theorem dX6_readLoop_31 : decode cX6_readLoop 31 = .ok (.aload_n 0, 1) := dk_42 (dk_at dksX6_readLoop_1 8 rfl rfl)
theorem dX6_readLoop_32 : decode cX6_readLoop 32 = .ok (.iconst 1, 1) := dk_4 (dk_at dksX6_readLoop_1 9 rfl rfl)
theorem dX6_readLoop_33 : decode cX6_readLoop 33 = .ok (.iconst 0, 1) := dk_3 (dk_at dksX6_readLoop_1 10 rfl rfl)
theorem dX6_readLoop_34 : decode cX6_readLoop 34 = .ok (.aload_n 0, 1) := dk_42 (dk_at dksX6_readLoop_1 11 rfl rfl)
theorem dX6_readLoop_35 : decode cX6_readLoop 35 = .ok (.getfield 32, 3) := dk_180 0 32 (dk_at dksX6_readLoop_1 12 rfl rfl)
theorem dX6_readLoop_38 : decode cX6_readLoop 38 = .ok (.iconst 0, 1) := dk_3 (dk_at dksX6_readLoop_1 15 rfl rfl)
theorem dX6_readLoop_39 : decode cX6_readLoop 39 = .ok (.iaload, 1) := dk_46 (dk_at dksX6_readLoop_1 16 rfl rfl)
theorem dX6_readLoop_40 : decode cX6_readLoop 40 = .ok (.iconst 1, 1) := dk_4 (dk_at dksX6_readLoop_1 17 rfl rfl)
theorem dX6_readLoop_41 : decode cX6_readLoop 41 = .ok (.isub, 1) := dk_100 (dk_at dksX6_readLoop_1 18 rfl rfl)
theorem dX6_readLoop_42 : decode cX6_readLoop 42 = .ok (.invokevirtual 211, 3) := dk_182 0 211 (dk_at dksX6_readLoop_1 19 rfl rfl)
theorem dX6_readLoop_45 : decode cX6_readLoop 45 = .ok (.ifCond .ne 5, 3) := dk_154 0 5 (dk_at dksX6_readLoop_2 0 rfl rfl)
theorem dX6_readLoop_48 : decode cX6_readLoop 48 = .ok (.iconst 0, 1) := dk_3 (dk_at dksX6_readLoop_2 3 rfl rfl)
theorem dX6_readLoop_49 : decode cX6_readLoop 49 = .ok (.ireturn, 1) := dk_172 (dk_at dksX6_readLoop_2 4 rfl rfl)
theorem dX6_readLoop_50 : decode cX6_readLoop 50 = .ok (.aload_n 0, 1) := dk_42 (dk_at dksX6_readLoop_2 5 rfl rfl)
theorem dX6_readLoop_51 : decode cX6_readLoop 51 = .ok (.aload_n 0, 1) := dk_42 (dk_at dksX6_readLoop_2 6 rfl rfl)
theorem dX6_readLoop_52 : decode cX6_readLoop 52 = .ok (.getfield 32, 3) := dk_180 0 32 (dk_at dksX6_readLoop_2 7 rfl rfl)
theorem dX6_readLoop_55 : decode cX6_readLoop 55 = .ok (.iconst 0, 1) := dk_3 (dk_at dksX6_readLoop_2 10 rfl rfl)
theorem dX6_readLoop_56 : decode cX6_readLoop 56 = .ok (.iaload, 1) := dk_46 (dk_at dksX6_readLoop_2 11 rfl rfl)
theorem dX6_readLoop_57 : decode cX6_readLoop 57 = .ok (.aload_n 0, 1) := dk_42 (dk_at dksX6_readLoop_2 12 rfl rfl)
theorem dX6_readLoop_58 : decode cX6_readLoop 58 = .ok (.getfield 32, 3) := dk_180 0 32 (dk_at dksX6_readLoop_2 13 rfl rfl)
theorem dX6_readLoop_61 : decode cX6_readLoop 61 = .ok (.iconst 1, 1) := dk_4 (dk_at dksX6_readLoop_2 16 rfl rfl)
theorem dX6_readLoop_62 : decode cX6_readLoop 62 = .ok (.iaload, 1) := dk_46 (dk_at dksX6_readLoop_2 17 rfl rfl)
theorem dX6_readLoop_63 : decode cX6_readLoop 63 = .ok (.invokevirtual 47, 3) := dk_182 0 47 (dk_at dksX6_readLoop_2 18 rfl rfl)
theorem dX6_readLoop_66 : decode cX6_readLoop 66 = .ok (.aload_n 0, 1) := dk_42 (dk_at dksX6_readLoop_2 21 rfl rfl)
theorem dX6_readLoop_67 : decode cX6_readLoop 67 = .ok (.invokevirtual 214, 3) := dk_182 0 214 (dk_at dksX6_readLoop_3 0 rfl rfl)
theorem dX6_readLoop_70 : decode cX6_readLoop 70 = .ok (.ireturn, 1) := dk_172 (dk_at dksX6_readLoop_3 3 rfl rfl)
abbrev cX6_isWord : ByteArray := prog_19_method_49_code
def yX6_isWord : MethodName := ⟨RX6, "isWord", "(Ljava/lang/String;)Z"⟩
def dkwX6_isWord_2 : List UInt8 := [28, 182, 0, 186, 159, 0, 5, 3, 172, 132, 2, 1, 167, 255, 224, 4, 172]
abbrev dktX6_isWord_2 : List UInt8 := dkwX6_isWord_2 ++ []
def dkwX6_isWord_1 : List UInt8 := [3, 172, 3, 61, 28, 43, 182, 0, 180, 162, 0, 30, 42, 180, 0, 25, 42, 180, 0, 162, 28, 96, 46, 43]
abbrev dktX6_isWord_1 : List UInt8 := dkwX6_isWord_1 ++ dktX6_isWord_2
def dkwX6_isWord_0 : List UInt8 := [42, 180, 0, 168, 4, 160, 0, 19, 42, 180, 0, 159, 42, 180, 0, 162, 100, 43, 182, 0, 180, 159, 0, 5]
abbrev dktX6_isWord_0 : List UInt8 := dkwX6_isWord_0 ++ dktX6_isWord_1
theorem dksX6_isWord_0 : cX6_isWord.data.toList.drop 0 = dktX6_isWord_0 := by decide +kernel
theorem dksX6_isWord_1 : cX6_isWord.data.toList.drop 24 = dktX6_isWord_1 := dk_seg dksX6_isWord_0 24 rfl rfl
theorem dksX6_isWord_2 : cX6_isWord.data.toList.drop 48 = dktX6_isWord_2 := dk_seg dksX6_isWord_1 24 rfl rfl
theorem dX6_isWord_0 : decode cX6_isWord 0 = .ok (.aload_n 0, 1) := dk_42 (dk_at dksX6_isWord_0 0 rfl rfl)
theorem dX6_isWord_1 : decode cX6_isWord 1 = .ok (.getfield 168, 3) := dk_180 0 168 (dk_at dksX6_isWord_0 1 rfl rfl)
theorem dX6_isWord_4 : decode cX6_isWord 4 = .ok (.iconst 1, 1) := dk_4 (dk_at dksX6_isWord_0 4 rfl rfl)
theorem dX6_isWord_5 : decode cX6_isWord 5 = .ok (.if_icmp .ne 19, 3) := dk_160 0 19 (dk_at dksX6_isWord_0 5 rfl rfl)
theorem dX6_isWord_8 : decode cX6_isWord 8 = .ok (.aload_n 0, 1) := dk_42 (dk_at dksX6_isWord_0 8 rfl rfl)
theorem dX6_isWord_9 : decode cX6_isWord 9 = .ok (.getfield 159, 3) := dk_180 0 159 (dk_at dksX6_isWord_0 9 rfl rfl)
theorem dX6_isWord_12 : decode cX6_isWord 12 = .ok (.aload_n 0, 1) := dk_42 (dk_at dksX6_isWord_0 12 rfl rfl)
theorem dX6_isWord_13 : decode cX6_isWord 13 = .ok (.getfield 162, 3) := dk_180 0 162 (dk_at dksX6_isWord_0 13 rfl rfl)
theorem dX6_isWord_16 : decode cX6_isWord 16 = .ok (.isub, 1) := dk_100 (dk_at dksX6_isWord_0 16 rfl rfl)
theorem dX6_isWord_17 : decode cX6_isWord 17 = .ok (.aload_n 1, 1) := dk_43 (dk_at dksX6_isWord_0 17 rfl rfl)
theorem dX6_isWord_18 : decode cX6_isWord 18 = .ok (.invokevirtual 180, 3) := dk_182 0 180 (dk_at dksX6_isWord_0 18 rfl rfl)
theorem dX6_isWord_21 : decode cX6_isWord 21 = .ok (.if_icmp .eq 5, 3) := dk_159 0 5 (dk_at dksX6_isWord_0 21 rfl rfl)
theorem dX6_isWord_24 : decode cX6_isWord 24 = .ok (.iconst 0, 1) := dk_3 (dk_at dksX6_isWord_1 0 rfl rfl)
theorem dX6_isWord_25 : decode cX6_isWord 25 = .ok (.ireturn, 1) := dk_172 (dk_at dksX6_isWord_1 1 rfl rfl)
theorem dX6_isWord_26 : decode cX6_isWord 26 = .ok (.iconst 0, 1) := dk_3 (dk_at dksX6_isWord_1 2 rfl rfl)
theorem dX6_isWord_27 : decode cX6_isWord 27 = .ok (.istore_n 2, 1) := dk_61 (dk_at dksX6_isWord_1 3 rfl rfl)
theorem dX6_isWord_28 : decode cX6_isWord 28 = .ok (.iload_n 2, 1) := dk_28 (dk_at dksX6_isWord_1 4 rfl rfl)
theorem dX6_isWord_29 : decode cX6_isWord 29 = .ok (.aload_n 1, 1) := dk_43 (dk_at dksX6_isWord_1 5 rfl rfl)
theorem dX6_isWord_30 : decode cX6_isWord 30 = .ok (.invokevirtual 180, 3) := dk_182 0 180 (dk_at dksX6_isWord_1 6 rfl rfl)
theorem dX6_isWord_33 : decode cX6_isWord 33 = .ok (.if_icmp .ge 30, 3) := dk_162 0 30 (dk_at dksX6_isWord_1 9 rfl rfl)
theorem dX6_isWord_36 : decode cX6_isWord 36 = .ok (.aload_n 0, 1) := dk_42 (dk_at dksX6_isWord_1 12 rfl rfl)
theorem dX6_isWord_37 : decode cX6_isWord 37 = .ok (.getfield 25, 3) := dk_180 0 25 (dk_at dksX6_isWord_1 13 rfl rfl)
theorem dX6_isWord_40 : decode cX6_isWord 40 = .ok (.aload_n 0, 1) := dk_42 (dk_at dksX6_isWord_1 16 rfl rfl)
theorem dX6_isWord_41 : decode cX6_isWord 41 = .ok (.getfield 162, 3) := dk_180 0 162 (dk_at dksX6_isWord_1 17 rfl rfl)
theorem dX6_isWord_44 : decode cX6_isWord 44 = .ok (.iload_n 2, 1) := dk_28 (dk_at dksX6_isWord_1 20 rfl rfl)
theorem dX6_isWord_45 : decode cX6_isWord 45 = .ok (.iadd, 1) := dk_96 (dk_at dksX6_isWord_1 21 rfl rfl)
theorem dX6_isWord_46 : decode cX6_isWord 46 = .ok (.iaload, 1) := dk_46 (dk_at dksX6_isWord_1 22 rfl rfl)
theorem dX6_isWord_47 : decode cX6_isWord 47 = .ok (.aload_n 1, 1) := dk_43 (dk_at dksX6_isWord_1 23 rfl rfl)
theorem dX6_isWord_48 : decode cX6_isWord 48 = .ok (.iload_n 2, 1) := dk_28 (dk_at dksX6_isWord_2 0 rfl rfl)
theorem dX6_isWord_49 : decode cX6_isWord 49 = .ok (.invokevirtual 186, 3) := dk_182 0 186 (dk_at dksX6_isWord_2 1 rfl rfl)
theorem dX6_isWord_52 : decode cX6_isWord 52 = .ok (.if_icmp .eq 5, 3) := dk_159 0 5 (dk_at dksX6_isWord_2 4 rfl rfl)
theorem dX6_isWord_55 : decode cX6_isWord 55 = .ok (.iconst 0, 1) := dk_3 (dk_at dksX6_isWord_2 7 rfl rfl)
theorem dX6_isWord_56 : decode cX6_isWord 56 = .ok (.ireturn, 1) := dk_172 (dk_at dksX6_isWord_2 8 rfl rfl)
theorem dX6_isWord_57 : decode cX6_isWord 57 = .ok (.iinc 2 1, 3) := dk_132 2 1 (dk_at dksX6_isWord_2 9 rfl rfl)
theorem dX6_isWord_60 : decode cX6_isWord 60 = .ok (.goto (-32), 3) := dk_167 255 224 (dk_at dksX6_isWord_2 12 rfl rfl)
theorem dX6_isWord_63 : decode cX6_isWord 63 = .ok (.iconst 1, 1) := dk_4 (dk_at dksX6_isWord_2 15 rfl rfl)
theorem dX6_isWord_64 : decode cX6_isWord 64 = .ok (.ireturn, 1) := dk_172 (dk_at dksX6_isWord_2 16 rfl rfl)
abbrev cX6_failsAt : ByteArray := prog_19_method_48_code
def yX6_failsAt : MethodName := ⟨RX6, "failsAt", "(I)Z"⟩
def dkwX6_failsAt_0 : List UInt8 := [42, 180, 0, 174, 154, 0, 16, 42, 27, 181, 0, 174, 42, 42, 180, 0, 162, 181, 0, 177, 3, 172]
abbrev dktX6_failsAt_0 : List UInt8 := dkwX6_failsAt_0 ++ []
theorem dksX6_failsAt_0 : cX6_failsAt.data.toList.drop 0 = dktX6_failsAt_0 := by decide +kernel
theorem dX6_failsAt_0 : decode cX6_failsAt 0 = .ok (.aload_n 0, 1) := dk_42 (dk_at dksX6_failsAt_0 0 rfl rfl)
theorem dX6_failsAt_1 : decode cX6_failsAt 1 = .ok (.getfield 174, 3) := dk_180 0 174 (dk_at dksX6_failsAt_0 1 rfl rfl)
theorem dX6_failsAt_4 : decode cX6_failsAt 4 = .ok (.ifCond .ne 16, 3) := dk_154 0 16 (dk_at dksX6_failsAt_0 4 rfl rfl)
theorem dX6_failsAt_7 : decode cX6_failsAt 7 = .ok (.aload_n 0, 1) := dk_42 (dk_at dksX6_failsAt_0 7 rfl rfl)
theorem dX6_failsAt_8 : decode cX6_failsAt 8 = .ok (.iload_n 1, 1) := dk_27 (dk_at dksX6_failsAt_0 8 rfl rfl)
theorem dX6_failsAt_9 : decode cX6_failsAt 9 = .ok (.putfield 174, 3) := dk_181 0 174 (dk_at dksX6_failsAt_0 9 rfl rfl)
theorem dX6_failsAt_12 : decode cX6_failsAt 12 = .ok (.aload_n 0, 1) := dk_42 (dk_at dksX6_failsAt_0 12 rfl rfl)
theorem dX6_failsAt_13 : decode cX6_failsAt 13 = .ok (.aload_n 0, 1) := dk_42 (dk_at dksX6_failsAt_0 13 rfl rfl)
theorem dX6_failsAt_14 : decode cX6_failsAt 14 = .ok (.getfield 162, 3) := dk_180 0 162 (dk_at dksX6_failsAt_0 14 rfl rfl)
theorem dX6_failsAt_17 : decode cX6_failsAt 17 = .ok (.putfield 177, 3) := dk_181 0 177 (dk_at dksX6_failsAt_0 17 rfl rfl)
theorem dX6_failsAt_20 : decode cX6_failsAt 20 = .ok (.iconst 0, 1) := dk_3 (dk_at dksX6_failsAt_0 20 rfl rfl)
theorem dX6_failsAt_21 : decode cX6_failsAt 21 = .ok (.ireturn, 1) := dk_172 (dk_at dksX6_failsAt_0 21 rfl rfl)
abbrev cX6_takes : ByteArray := prog_19_method_53_code
def yX6_takes : MethodName := ⟨RX6, "takes", "(III)Z"⟩
def dkwX6_takes_0 : List UInt8 := [42, 28, 29, 182, 0, 202, 154, 0, 5, 3, 172, 42, 180, 0, 32, 27, 42, 180, 0, 193, 79, 4, 172]
abbrev dktX6_takes_0 : List UInt8 := dkwX6_takes_0 ++ []
theorem dksX6_takes_0 : cX6_takes.data.toList.drop 0 = dktX6_takes_0 := by decide +kernel
theorem dX6_takes_0 : decode cX6_takes 0 = .ok (.aload_n 0, 1) := dk_42 (dk_at dksX6_takes_0 0 rfl rfl)
theorem dX6_takes_1 : decode cX6_takes 1 = .ok (.iload_n 2, 1) := dk_28 (dk_at dksX6_takes_0 1 rfl rfl)
theorem dX6_takes_2 : decode cX6_takes 2 = .ok (.iload_n 3, 1) := dk_29 (dk_at dksX6_takes_0 2 rfl rfl)
theorem dX6_takes_3 : decode cX6_takes 3 = .ok (.invokevirtual 202, 3) := dk_182 0 202 (dk_at dksX6_takes_0 3 rfl rfl)
theorem dX6_takes_6 : decode cX6_takes 6 = .ok (.ifCond .ne 5, 3) := dk_154 0 5 (dk_at dksX6_takes_0 6 rfl rfl)
theorem dX6_takes_9 : decode cX6_takes 9 = .ok (.iconst 0, 1) := dk_3 (dk_at dksX6_takes_0 9 rfl rfl)
theorem dX6_takes_10 : decode cX6_takes 10 = .ok (.ireturn, 1) := dk_172 (dk_at dksX6_takes_0 10 rfl rfl)
theorem dX6_takes_11 : decode cX6_takes 11 = .ok (.aload_n 0, 1) := dk_42 (dk_at dksX6_takes_0 11 rfl rfl)
theorem dX6_takes_12 : decode cX6_takes 12 = .ok (.getfield 32, 3) := dk_180 0 32 (dk_at dksX6_takes_0 12 rfl rfl)
theorem dX6_takes_15 : decode cX6_takes 15 = .ok (.iload_n 1, 1) := dk_27 (dk_at dksX6_takes_0 15 rfl rfl)
theorem dX6_takes_16 : decode cX6_takes 16 = .ok (.aload_n 0, 1) := dk_42 (dk_at dksX6_takes_0 16 rfl rfl)
theorem dX6_takes_17 : decode cX6_takes 17 = .ok (.getfield 193, 3) := dk_180 0 193 (dk_at dksX6_takes_0 17 rfl rfl)
theorem dX6_takes_20 : decode cX6_takes 20 = .ok (.iastore, 1) := dk_79 (dk_at dksX6_takes_0 20 rfl rfl)
theorem dX6_takes_21 : decode cX6_takes 21 = .ok (.iconst 1, 1) := dk_4 (dk_at dksX6_takes_0 21 rfl rfl)
theorem dX6_takes_22 : decode cX6_takes 22 = .ok (.ireturn, 1) := dk_172 (dk_at dksX6_takes_0 22 rfl rfl)
abbrev cX6_takesNumber : ByteArray := prog_19_method_51_code
def yX6_takesNumber : MethodName := ⟨RX6, "takesNumber", "(II)Z"⟩
def dkwX6_takesNumber_0 : List UInt8 := [42, 27, 28, 182, 0, 196, 154, 0, 5, 3, 172, 42, 182, 0, 199, 4, 172]
abbrev dktX6_takesNumber_0 : List UInt8 := dkwX6_takesNumber_0 ++ []
theorem dksX6_takesNumber_0 : cX6_takesNumber.data.toList.drop 0 = dktX6_takesNumber_0 := by decide +kernel
theorem dX6_takesNumber_0 : decode cX6_takesNumber 0 = .ok (.aload_n 0, 1) := dk_42 (dk_at dksX6_takesNumber_0 0 rfl rfl)
theorem dX6_takesNumber_1 : decode cX6_takesNumber 1 = .ok (.iload_n 1, 1) := dk_27 (dk_at dksX6_takesNumber_0 1 rfl rfl)
theorem dX6_takesNumber_2 : decode cX6_takesNumber 2 = .ok (.iload_n 2, 1) := dk_28 (dk_at dksX6_takesNumber_0 2 rfl rfl)
theorem dX6_takesNumber_3 : decode cX6_takesNumber 3 = .ok (.invokevirtual 196, 3) := dk_182 0 196 (dk_at dksX6_takesNumber_0 3 rfl rfl)
theorem dX6_takesNumber_6 : decode cX6_takesNumber 6 = .ok (.ifCond .ne 5, 3) := dk_154 0 5 (dk_at dksX6_takesNumber_0 6 rfl rfl)
theorem dX6_takesNumber_9 : decode cX6_takesNumber 9 = .ok (.iconst 0, 1) := dk_3 (dk_at dksX6_takesNumber_0 9 rfl rfl)
theorem dX6_takesNumber_10 : decode cX6_takesNumber 10 = .ok (.ireturn, 1) := dk_172 (dk_at dksX6_takesNumber_0 10 rfl rfl)
theorem dX6_takesNumber_11 : decode cX6_takesNumber 11 = .ok (.aload_n 0, 1) := dk_42 (dk_at dksX6_takesNumber_0 11 rfl rfl)
theorem dX6_takesNumber_12 : decode cX6_takesNumber 12 = .ok (.invokevirtual 199, 3) := dk_182 0 199 (dk_at dksX6_takesNumber_0 12 rfl rfl)
theorem dX6_takesNumber_15 : decode cX6_takesNumber 15 = .ok (.iconst 1, 1) := dk_4 (dk_at dksX6_takesNumber_0 15 rfl rfl)
theorem dX6_takesNumber_16 : decode cX6_takesNumber 16 = .ok (.ireturn, 1) := dk_172 (dk_at dksX6_takesNumber_0 16 rfl rfl)
abbrev cX6_seesNumber : ByteArray := prog_19_method_50_code
def yX6_seesNumber : MethodName := ⟨RX6, "seesNumber", "(II)Z"⟩
def dkwX6_seesNumber_1 : List UInt8 := [154, 0, 9, 42, 5, 182, 0, 190, 172, 42, 42, 180, 0, 165, 181, 0, 193, 4, 172]
abbrev dktX6_seesNumber_1 : List UInt8 := dkwX6_seesNumber_1 ++ []
def dkwX6_seesNumber_0 : List UInt8 := [42, 180, 0, 168, 5, 159, 0, 9, 42, 4, 182, 0, 190, 172, 42, 180, 0, 165, 27, 28, 184, 0, 152]
abbrev dktX6_seesNumber_0 : List UInt8 := dkwX6_seesNumber_0 ++ dktX6_seesNumber_1
theorem dksX6_seesNumber_0 : cX6_seesNumber.data.toList.drop 0 = dktX6_seesNumber_0 := by decide +kernel
theorem dksX6_seesNumber_1 : cX6_seesNumber.data.toList.drop 23 = dktX6_seesNumber_1 := dk_seg dksX6_seesNumber_0 23 rfl rfl
theorem dX6_seesNumber_0 : decode cX6_seesNumber 0 = .ok (.aload_n 0, 1) := dk_42 (dk_at dksX6_seesNumber_0 0 rfl rfl)
theorem dX6_seesNumber_1 : decode cX6_seesNumber 1 = .ok (.getfield 168, 3) := dk_180 0 168 (dk_at dksX6_seesNumber_0 1 rfl rfl)
theorem dX6_seesNumber_4 : decode cX6_seesNumber 4 = .ok (.iconst 2, 1) := dk_5 (dk_at dksX6_seesNumber_0 4 rfl rfl)
theorem dX6_seesNumber_5 : decode cX6_seesNumber 5 = .ok (.if_icmp .eq 9, 3) := dk_159 0 9 (dk_at dksX6_seesNumber_0 5 rfl rfl)
theorem dX6_seesNumber_8 : decode cX6_seesNumber 8 = .ok (.aload_n 0, 1) := dk_42 (dk_at dksX6_seesNumber_0 8 rfl rfl)
theorem dX6_seesNumber_9 : decode cX6_seesNumber 9 = .ok (.iconst 1, 1) := dk_4 (dk_at dksX6_seesNumber_0 9 rfl rfl)
theorem dX6_seesNumber_10 : decode cX6_seesNumber 10 = .ok (.invokevirtual 190, 3) := dk_182 0 190 (dk_at dksX6_seesNumber_0 10 rfl rfl)
theorem dX6_seesNumber_13 : decode cX6_seesNumber 13 = .ok (.ireturn, 1) := dk_172 (dk_at dksX6_seesNumber_0 13 rfl rfl)
theorem dX6_seesNumber_14 : decode cX6_seesNumber 14 = .ok (.aload_n 0, 1) := dk_42 (dk_at dksX6_seesNumber_0 14 rfl rfl)
theorem dX6_seesNumber_15 : decode cX6_seesNumber 15 = .ok (.getfield 165, 3) := dk_180 0 165 (dk_at dksX6_seesNumber_0 15 rfl rfl)
theorem dX6_seesNumber_18 : decode cX6_seesNumber 18 = .ok (.iload_n 1, 1) := dk_27 (dk_at dksX6_seesNumber_0 18 rfl rfl)
theorem dX6_seesNumber_19 : decode cX6_seesNumber 19 = .ok (.iload_n 2, 1) := dk_28 (dk_at dksX6_seesNumber_0 19 rfl rfl)
theorem dX6_seesNumber_20 : decode cX6_seesNumber 20 = .ok (.invokestatic 152, 3) := dk_184 0 152 (dk_at dksX6_seesNumber_0 20 rfl rfl)
theorem dX6_seesNumber_23 : decode cX6_seesNumber 23 = .ok (.ifCond .ne 9, 3) := dk_154 0 9 (dk_at dksX6_seesNumber_1 0 rfl rfl)
theorem dX6_seesNumber_26 : decode cX6_seesNumber 26 = .ok (.aload_n 0, 1) := dk_42 (dk_at dksX6_seesNumber_1 3 rfl rfl)
theorem dX6_seesNumber_27 : decode cX6_seesNumber 27 = .ok (.iconst 2, 1) := dk_5 (dk_at dksX6_seesNumber_1 4 rfl rfl)
theorem dX6_seesNumber_28 : decode cX6_seesNumber 28 = .ok (.invokevirtual 190, 3) := dk_182 0 190 (dk_at dksX6_seesNumber_1 5 rfl rfl)
theorem dX6_seesNumber_31 : decode cX6_seesNumber 31 = .ok (.ireturn, 1) := dk_172 (dk_at dksX6_seesNumber_1 8 rfl rfl)
theorem dX6_seesNumber_32 : decode cX6_seesNumber 32 = .ok (.aload_n 0, 1) := dk_42 (dk_at dksX6_seesNumber_1 9 rfl rfl)
theorem dX6_seesNumber_33 : decode cX6_seesNumber 33 = .ok (.aload_n 0, 1) := dk_42 (dk_at dksX6_seesNumber_1 10 rfl rfl)
theorem dX6_seesNumber_34 : decode cX6_seesNumber 34 = .ok (.getfield 165, 3) := dk_180 0 165 (dk_at dksX6_seesNumber_1 11 rfl rfl)
theorem dX6_seesNumber_37 : decode cX6_seesNumber 37 = .ok (.putfield 193, 3) := dk_181 0 193 (dk_at dksX6_seesNumber_1 14 rfl rfl)
theorem dX6_seesNumber_40 : decode cX6_seesNumber 40 = .ok (.iconst 1, 1) := dk_4 (dk_at dksX6_seesNumber_1 17 rfl rfl)
theorem dX6_seesNumber_41 : decode cX6_seesNumber 41 = .ok (.ireturn, 1) := dk_172 (dk_at dksX6_seesNumber_1 18 rfl rfl)
abbrev cX6_takesSemicolon : ByteArray := prog_19_method_52_code
def yX6_takesSemicolon : MethodName := ⟨RX6, "takesSemicolon", "()Z"⟩
def dkwX6_takesSemicolon_0 : List UInt8 := [42, 180, 0, 168, 6, 159, 0, 9, 42, 4, 182, 0, 190, 172, 42, 182, 0, 199, 4, 172]
abbrev dktX6_takesSemicolon_0 : List UInt8 := dkwX6_takesSemicolon_0 ++ []
theorem dksX6_takesSemicolon_0 : cX6_takesSemicolon.data.toList.drop 0 = dktX6_takesSemicolon_0 := by decide +kernel
theorem dX6_takesSemicolon_0 : decode cX6_takesSemicolon 0 = .ok (.aload_n 0, 1) := dk_42 (dk_at dksX6_takesSemicolon_0 0 rfl rfl)
theorem dX6_takesSemicolon_1 : decode cX6_takesSemicolon 1 = .ok (.getfield 168, 3) := dk_180 0 168 (dk_at dksX6_takesSemicolon_0 1 rfl rfl)
theorem dX6_takesSemicolon_4 : decode cX6_takesSemicolon 4 = .ok (.iconst 3, 1) := dk_6 (dk_at dksX6_takesSemicolon_0 4 rfl rfl)
theorem dX6_takesSemicolon_5 : decode cX6_takesSemicolon 5 = .ok (.if_icmp .eq 9, 3) := dk_159 0 9 (dk_at dksX6_takesSemicolon_0 5 rfl rfl)
theorem dX6_takesSemicolon_8 : decode cX6_takesSemicolon 8 = .ok (.aload_n 0, 1) := dk_42 (dk_at dksX6_takesSemicolon_0 8 rfl rfl)
theorem dX6_takesSemicolon_9 : decode cX6_takesSemicolon 9 = .ok (.iconst 1, 1) := dk_4 (dk_at dksX6_takesSemicolon_0 9 rfl rfl)
theorem dX6_takesSemicolon_10 : decode cX6_takesSemicolon 10 = .ok (.invokevirtual 190, 3) := dk_182 0 190 (dk_at dksX6_takesSemicolon_0 10 rfl rfl)
theorem dX6_takesSemicolon_13 : decode cX6_takesSemicolon 13 = .ok (.ireturn, 1) := dk_172 (dk_at dksX6_takesSemicolon_0 13 rfl rfl)
theorem dX6_takesSemicolon_14 : decode cX6_takesSemicolon 14 = .ok (.aload_n 0, 1) := dk_42 (dk_at dksX6_takesSemicolon_0 14 rfl rfl)
theorem dX6_takesSemicolon_15 : decode cX6_takesSemicolon 15 = .ok (.invokevirtual 199, 3) := dk_182 0 199 (dk_at dksX6_takesSemicolon_0 15 rfl rfl)
theorem dX6_takesSemicolon_18 : decode cX6_takesSemicolon 18 = .ok (.iconst 1, 1) := dk_4 (dk_at dksX6_takesSemicolon_0 18 rfl rfl)
theorem dX6_takesSemicolon_19 : decode cX6_takesSemicolon 19 = .ok (.ireturn, 1) := dk_172 (dk_at dksX6_takesSemicolon_0 19 rfl rfl)
abbrev cX6_readSetupStatement : ByteArray := prog_19_method_58_code
def yX6_readSetupStatement : MethodName := ⟨RX6, "readSetupStatement", "()Z"⟩
def dkwX6_readSetupStatement_2 : List UInt8 := [182, 0, 190, 172]
abbrev dktX6_readSetupStatement_2 : List UInt8 := dkwX6_readSetupStatement_2 ++ []
def dkwX6_readSetupStatement_1 : List UInt8 := [182, 0, 228, 172, 42, 18, 231, 182, 0, 207, 153, 0, 10, 42, 182, 0, 233, 167, 0, 8, 42, 4]
abbrev dktX6_readSetupStatement_1 : List UInt8 := dkwX6_readSetupStatement_1 ++ dktX6_readSetupStatement_2
def dkwX6_readSetupStatement_0 : List UInt8 := [42, 18, 221, 182, 0, 207, 153, 0, 8, 42, 182, 0, 223, 172, 42, 18, 226, 182, 0, 207, 153, 0, 8, 42]
abbrev dktX6_readSetupStatement_0 : List UInt8 := dkwX6_readSetupStatement_0 ++ dktX6_readSetupStatement_1
theorem dksX6_readSetupStatement_0 : cX6_readSetupStatement.data.toList.drop 0 = dktX6_readSetupStatement_0 := by decide +kernel
theorem dksX6_readSetupStatement_1 : cX6_readSetupStatement.data.toList.drop 24 = dktX6_readSetupStatement_1 := dk_seg dksX6_readSetupStatement_0 24 rfl rfl
theorem dksX6_readSetupStatement_2 : cX6_readSetupStatement.data.toList.drop 46 = dktX6_readSetupStatement_2 := dk_seg dksX6_readSetupStatement_1 22 rfl rfl
theorem dX6_readSetupStatement_0 : decode cX6_readSetupStatement 0 = .ok (.aload_n 0, 1) := dk_42 (dk_at dksX6_readSetupStatement_0 0 rfl rfl)
theorem dX6_readSetupStatement_1 : decode cX6_readSetupStatement 1 = .ok (.ldc 221, 2) := dk_18 221 (dk_at dksX6_readSetupStatement_0 1 rfl rfl)
theorem dX6_readSetupStatement_3 : decode cX6_readSetupStatement 3 = .ok (.invokevirtual 207, 3) := dk_182 0 207 (dk_at dksX6_readSetupStatement_0 3 rfl rfl)
theorem dX6_readSetupStatement_6 : decode cX6_readSetupStatement 6 = .ok (.ifCond .eq 8, 3) := dk_153 0 8 (dk_at dksX6_readSetupStatement_0 6 rfl rfl)
theorem dX6_readSetupStatement_9 : decode cX6_readSetupStatement 9 = .ok (.aload_n 0, 1) := dk_42 (dk_at dksX6_readSetupStatement_0 9 rfl rfl)
theorem dX6_readSetupStatement_10 : decode cX6_readSetupStatement 10 = .ok (.invokevirtual 223, 3) := dk_182 0 223 (dk_at dksX6_readSetupStatement_0 10 rfl rfl)
theorem dX6_readSetupStatement_13 : decode cX6_readSetupStatement 13 = .ok (.ireturn, 1) := dk_172 (dk_at dksX6_readSetupStatement_0 13 rfl rfl)
theorem dX6_readSetupStatement_14 : decode cX6_readSetupStatement 14 = .ok (.aload_n 0, 1) := dk_42 (dk_at dksX6_readSetupStatement_0 14 rfl rfl)
theorem dX6_readSetupStatement_15 : decode cX6_readSetupStatement 15 = .ok (.ldc 226, 2) := dk_18 226 (dk_at dksX6_readSetupStatement_0 15 rfl rfl)
theorem dX6_readSetupStatement_17 : decode cX6_readSetupStatement 17 = .ok (.invokevirtual 207, 3) := dk_182 0 207 (dk_at dksX6_readSetupStatement_0 17 rfl rfl)
theorem dX6_readSetupStatement_20 : decode cX6_readSetupStatement 20 = .ok (.ifCond .eq 8, 3) := dk_153 0 8 (dk_at dksX6_readSetupStatement_0 20 rfl rfl)
theorem dX6_readSetupStatement_23 : decode cX6_readSetupStatement 23 = .ok (.aload_n 0, 1) := dk_42 (dk_at dksX6_readSetupStatement_0 23 rfl rfl)
theorem dX6_readSetupStatement_24 : decode cX6_readSetupStatement 24 = .ok (.invokevirtual 228, 3) := dk_182 0 228 (dk_at dksX6_readSetupStatement_1 0 rfl rfl)
theorem dX6_readSetupStatement_27 : decode cX6_readSetupStatement 27 = .ok (.ireturn, 1) := dk_172 (dk_at dksX6_readSetupStatement_1 3 rfl rfl)
theorem dX6_readSetupStatement_28 : decode cX6_readSetupStatement 28 = .ok (.aload_n 0, 1) := dk_42 (dk_at dksX6_readSetupStatement_1 4 rfl rfl)
theorem dX6_readSetupStatement_29 : decode cX6_readSetupStatement 29 = .ok (.ldc 231, 2) := dk_18 231 (dk_at dksX6_readSetupStatement_1 5 rfl rfl)
theorem dX6_readSetupStatement_31 : decode cX6_readSetupStatement 31 = .ok (.invokevirtual 207, 3) := dk_182 0 207 (dk_at dksX6_readSetupStatement_1 7 rfl rfl)
theorem dX6_readSetupStatement_34 : decode cX6_readSetupStatement 34 = .ok (.ifCond .eq 10, 3) := dk_153 0 10 (dk_at dksX6_readSetupStatement_1 10 rfl rfl)
theorem dX6_readSetupStatement_37 : decode cX6_readSetupStatement 37 = .ok (.aload_n 0, 1) := dk_42 (dk_at dksX6_readSetupStatement_1 13 rfl rfl)
theorem dX6_readSetupStatement_38 : decode cX6_readSetupStatement 38 = .ok (.invokevirtual 233, 3) := dk_182 0 233 (dk_at dksX6_readSetupStatement_1 14 rfl rfl)
theorem dX6_readSetupStatement_41 : decode cX6_readSetupStatement 41 = .ok (.goto 8, 3) := dk_167 0 8 (dk_at dksX6_readSetupStatement_1 17 rfl rfl)
theorem dX6_readSetupStatement_44 : decode cX6_readSetupStatement 44 = .ok (.aload_n 0, 1) := dk_42 (dk_at dksX6_readSetupStatement_1 20 rfl rfl)
theorem dX6_readSetupStatement_45 : decode cX6_readSetupStatement 45 = .ok (.iconst 1, 1) := dk_4 (dk_at dksX6_readSetupStatement_1 21 rfl rfl)
theorem dX6_readSetupStatement_46 : decode cX6_readSetupStatement 46 = .ok (.invokevirtual 190, 3) := dk_182 0 190 (dk_at dksX6_readSetupStatement_2 0 rfl rfl)
theorem dX6_readSetupStatement_49 : decode cX6_readSetupStatement 49 = .ok (.ireturn, 1) := dk_172 (dk_at dksX6_readSetupStatement_2 3 rfl rfl)
abbrev cX6_readScanner : ByteArray := prog_19_method_55_code
def yX6_readScanner : MethodName := ⟨RX6, "readScanner", "()Z"⟩
def dkwX6_readScanner_3 : List UInt8 := [180, 0, 193, 79, 42, 180, 0, 7, 5, 92, 46, 4, 96, 79, 42, 182, 0, 199, 42, 182, 0, 214, 172]
abbrev dktX6_readScanner_3 : List UInt8 := dkwX6_readScanner_3 ++ []
def dkwX6_readScanner_2 : List UInt8 := [153, 0, 9, 42, 6, 182, 0, 190, 172, 42, 180, 0, 7, 16, 19, 42, 180, 0, 7, 5, 46, 96, 42]
abbrev dktX6_readScanner_2 : List UInt8 := dkwX6_readScanner_2 ++ dktX6_readScanner_3
def dkwX6_readScanner_1 : List UInt8 := [180, 0, 7, 3, 46, 4, 100, 182, 0, 196, 154, 0, 5, 3, 172, 42, 42, 180, 0, 193, 182, 0, 120]
abbrev dktX6_readScanner_1 : List UInt8 := dkwX6_readScanner_1 ++ dktX6_readScanner_2
def dkwX6_readScanner_0 : List UInt8 := [42, 180, 0, 7, 5, 46, 7, 160, 0, 9, 42, 7, 182, 0, 190, 172, 42, 182, 0, 199, 42, 3, 42]
abbrev dktX6_readScanner_0 : List UInt8 := dkwX6_readScanner_0 ++ dktX6_readScanner_1
theorem dksX6_readScanner_0 : cX6_readScanner.data.toList.drop 0 = dktX6_readScanner_0 := by decide +kernel
theorem dksX6_readScanner_1 : cX6_readScanner.data.toList.drop 23 = dktX6_readScanner_1 := dk_seg dksX6_readScanner_0 23 rfl rfl
theorem dksX6_readScanner_2 : cX6_readScanner.data.toList.drop 46 = dktX6_readScanner_2 := dk_seg dksX6_readScanner_1 23 rfl rfl
theorem dksX6_readScanner_3 : cX6_readScanner.data.toList.drop 69 = dktX6_readScanner_3 := dk_seg dksX6_readScanner_2 23 rfl rfl
theorem dX6_readScanner_0 : decode cX6_readScanner 0 = .ok (.aload_n 0, 1) := dk_42 (dk_at dksX6_readScanner_0 0 rfl rfl)
theorem dX6_readScanner_1 : decode cX6_readScanner 1 = .ok (.getfield 7, 3) := dk_180 0 7 (dk_at dksX6_readScanner_0 1 rfl rfl)
theorem dX6_readScanner_4 : decode cX6_readScanner 4 = .ok (.iconst 2, 1) := dk_5 (dk_at dksX6_readScanner_0 4 rfl rfl)
theorem dX6_readScanner_5 : decode cX6_readScanner 5 = .ok (.iaload, 1) := dk_46 (dk_at dksX6_readScanner_0 5 rfl rfl)
theorem dX6_readScanner_6 : decode cX6_readScanner 6 = .ok (.iconst 4, 1) := dk_7 (dk_at dksX6_readScanner_0 6 rfl rfl)
theorem dX6_readScanner_7 : decode cX6_readScanner 7 = .ok (.if_icmp .ne 9, 3) := dk_160 0 9 (dk_at dksX6_readScanner_0 7 rfl rfl)
theorem dX6_readScanner_10 : decode cX6_readScanner 10 = .ok (.aload_n 0, 1) := dk_42 (dk_at dksX6_readScanner_0 10 rfl rfl)
theorem dX6_readScanner_11 : decode cX6_readScanner 11 = .ok (.iconst 4, 1) := dk_7 (dk_at dksX6_readScanner_0 11 rfl rfl)
theorem dX6_readScanner_12 : decode cX6_readScanner 12 = .ok (.invokevirtual 190, 3) := dk_182 0 190 (dk_at dksX6_readScanner_0 12 rfl rfl)
theorem dX6_readScanner_15 : decode cX6_readScanner 15 = .ok (.ireturn, 1) := dk_172 (dk_at dksX6_readScanner_0 15 rfl rfl)
theorem dX6_readScanner_16 : decode cX6_readScanner 16 = .ok (.aload_n 0, 1) := dk_42 (dk_at dksX6_readScanner_0 16 rfl rfl)
theorem dX6_readScanner_17 : decode cX6_readScanner 17 = .ok (.invokevirtual 199, 3) := dk_182 0 199 (dk_at dksX6_readScanner_0 17 rfl rfl)
theorem dX6_readScanner_20 : decode cX6_readScanner 20 = .ok (.aload_n 0, 1) := dk_42 (dk_at dksX6_readScanner_0 20 rfl rfl)
theorem dX6_readScanner_21 : decode cX6_readScanner 21 = .ok (.iconst 0, 1) := dk_3 (dk_at dksX6_readScanner_0 21 rfl rfl)
theorem dX6_readScanner_22 : decode cX6_readScanner 22 = .ok (.aload_n 0, 1) := dk_42 (dk_at dksX6_readScanner_0 22 rfl rfl)
theorem dX6_readScanner_23 : decode cX6_readScanner 23 = .ok (.getfield 7, 3) := dk_180 0 7 (dk_at dksX6_readScanner_1 0 rfl rfl)
theorem dX6_readScanner_26 : decode cX6_readScanner 26 = .ok (.iconst 0, 1) := dk_3 (dk_at dksX6_readScanner_1 3 rfl rfl)
theorem dX6_readScanner_27 : decode cX6_readScanner 27 = .ok (.iaload, 1) := dk_46 (dk_at dksX6_readScanner_1 4 rfl rfl)
theorem dX6_readScanner_28 : decode cX6_readScanner 28 = .ok (.iconst 1, 1) := dk_4 (dk_at dksX6_readScanner_1 5 rfl rfl)
theorem dX6_readScanner_29 : decode cX6_readScanner 29 = .ok (.isub, 1) := dk_100 (dk_at dksX6_readScanner_1 6 rfl rfl)
theorem dX6_readScanner_30 : decode cX6_readScanner 30 = .ok (.invokevirtual 196, 3) := dk_182 0 196 (dk_at dksX6_readScanner_1 7 rfl rfl)
theorem dX6_readScanner_33 : decode cX6_readScanner 33 = .ok (.ifCond .ne 5, 3) := dk_154 0 5 (dk_at dksX6_readScanner_1 10 rfl rfl)
theorem dX6_readScanner_36 : decode cX6_readScanner 36 = .ok (.iconst 0, 1) := dk_3 (dk_at dksX6_readScanner_1 13 rfl rfl)
theorem dX6_readScanner_37 : decode cX6_readScanner 37 = .ok (.ireturn, 1) := dk_172 (dk_at dksX6_readScanner_1 14 rfl rfl)
theorem dX6_readScanner_38 : decode cX6_readScanner 38 = .ok (.aload_n 0, 1) := dk_42 (dk_at dksX6_readScanner_1 15 rfl rfl)
theorem dX6_readScanner_39 : decode cX6_readScanner 39 = .ok (.aload_n 0, 1) := dk_42 (dk_at dksX6_readScanner_1 16 rfl rfl)
theorem dX6_readScanner_40 : decode cX6_readScanner 40 = .ok (.getfield 193, 3) := dk_180 0 193 (dk_at dksX6_readScanner_1 17 rfl rfl)
theorem dX6_readScanner_43 : decode cX6_readScanner 43 = .ok (.invokevirtual 120, 3) := dk_182 0 120 (dk_at dksX6_readScanner_1 20 rfl rfl)
theorem dX6_readScanner_46 : decode cX6_readScanner 46 = .ok (.ifCond .eq 9, 3) := dk_153 0 9 (dk_at dksX6_readScanner_2 0 rfl rfl)
theorem dX6_readScanner_49 : decode cX6_readScanner 49 = .ok (.aload_n 0, 1) := dk_42 (dk_at dksX6_readScanner_2 3 rfl rfl)
theorem dX6_readScanner_50 : decode cX6_readScanner 50 = .ok (.iconst 3, 1) := dk_6 (dk_at dksX6_readScanner_2 4 rfl rfl)
theorem dX6_readScanner_51 : decode cX6_readScanner 51 = .ok (.invokevirtual 190, 3) := dk_182 0 190 (dk_at dksX6_readScanner_2 5 rfl rfl)
theorem dX6_readScanner_54 : decode cX6_readScanner 54 = .ok (.ireturn, 1) := dk_172 (dk_at dksX6_readScanner_2 8 rfl rfl)
theorem dX6_readScanner_55 : decode cX6_readScanner 55 = .ok (.aload_n 0, 1) := dk_42 (dk_at dksX6_readScanner_2 9 rfl rfl)
theorem dX6_readScanner_56 : decode cX6_readScanner 56 = .ok (.getfield 7, 3) := dk_180 0 7 (dk_at dksX6_readScanner_2 10 rfl rfl)
theorem dX6_readScanner_59 : decode cX6_readScanner 59 = .ok (.bipush 19, 2) := dk_16 19 (dk_at dksX6_readScanner_2 13 rfl rfl)
theorem dX6_readScanner_61 : decode cX6_readScanner 61 = .ok (.aload_n 0, 1) := dk_42 (dk_at dksX6_readScanner_2 15 rfl rfl)
theorem dX6_readScanner_62 : decode cX6_readScanner 62 = .ok (.getfield 7, 3) := dk_180 0 7 (dk_at dksX6_readScanner_2 16 rfl rfl)
theorem dX6_readScanner_65 : decode cX6_readScanner 65 = .ok (.iconst 2, 1) := dk_5 (dk_at dksX6_readScanner_2 19 rfl rfl)
theorem dX6_readScanner_66 : decode cX6_readScanner 66 = .ok (.iaload, 1) := dk_46 (dk_at dksX6_readScanner_2 20 rfl rfl)
theorem dX6_readScanner_67 : decode cX6_readScanner 67 = .ok (.iadd, 1) := dk_96 (dk_at dksX6_readScanner_2 21 rfl rfl)
theorem dX6_readScanner_68 : decode cX6_readScanner 68 = .ok (.aload_n 0, 1) := dk_42 (dk_at dksX6_readScanner_2 22 rfl rfl)
theorem dX6_readScanner_69 : decode cX6_readScanner 69 = .ok (.getfield 193, 3) := dk_180 0 193 (dk_at dksX6_readScanner_3 0 rfl rfl)
theorem dX6_readScanner_72 : decode cX6_readScanner 72 = .ok (.iastore, 1) := dk_79 (dk_at dksX6_readScanner_3 3 rfl rfl)
theorem dX6_readScanner_73 : decode cX6_readScanner 73 = .ok (.aload_n 0, 1) := dk_42 (dk_at dksX6_readScanner_3 4 rfl rfl)
theorem dX6_readScanner_74 : decode cX6_readScanner 74 = .ok (.getfield 7, 3) := dk_180 0 7 (dk_at dksX6_readScanner_3 5 rfl rfl)
theorem dX6_readScanner_77 : decode cX6_readScanner 77 = .ok (.iconst 2, 1) := dk_5 (dk_at dksX6_readScanner_3 8 rfl rfl)
theorem dX6_readScanner_78 : decode cX6_readScanner 78 = .ok (.dup2, 1) := dk_92 (dk_at dksX6_readScanner_3 9 rfl rfl)
theorem dX6_readScanner_79 : decode cX6_readScanner 79 = .ok (.iaload, 1) := dk_46 (dk_at dksX6_readScanner_3 10 rfl rfl)
theorem dX6_readScanner_80 : decode cX6_readScanner 80 = .ok (.iconst 1, 1) := dk_4 (dk_at dksX6_readScanner_3 11 rfl rfl)
theorem dX6_readScanner_81 : decode cX6_readScanner 81 = .ok (.iadd, 1) := dk_96 (dk_at dksX6_readScanner_3 12 rfl rfl)
theorem dX6_readScanner_82 : decode cX6_readScanner 82 = .ok (.iastore, 1) := dk_79 (dk_at dksX6_readScanner_3 13 rfl rfl)
theorem dX6_readScanner_83 : decode cX6_readScanner 83 = .ok (.aload_n 0, 1) := dk_42 (dk_at dksX6_readScanner_3 14 rfl rfl)
theorem dX6_readScanner_84 : decode cX6_readScanner 84 = .ok (.invokevirtual 199, 3) := dk_182 0 199 (dk_at dksX6_readScanner_3 15 rfl rfl)
theorem dX6_readScanner_87 : decode cX6_readScanner 87 = .ok (.aload_n 0, 1) := dk_42 (dk_at dksX6_readScanner_3 18 rfl rfl)
theorem dX6_readScanner_88 : decode cX6_readScanner 88 = .ok (.invokevirtual 214, 3) := dk_182 0 214 (dk_at dksX6_readScanner_3 19 rfl rfl)
theorem dX6_readScanner_91 : decode cX6_readScanner 91 = .ok (.ireturn, 1) := dk_172 (dk_at dksX6_readScanner_3 22 rfl rfl)
abbrev cX6_hasScanner : ByteArray := prog_19_method_19_code
def yX6_hasScanner : MethodName := ⟨RX6, "hasScanner", "(I)Z"⟩
def dkwX6_hasScanner_1 : List UInt8 := [160, 0, 5, 4, 172, 132, 2, 1, 167, 255, 228, 3, 172]
abbrev dktX6_hasScanner_1 : List UInt8 := dkwX6_hasScanner_1 ++ []
def dkwX6_hasScanner_0 : List UInt8 := [3, 61, 28, 42, 180, 0, 7, 5, 46, 162, 0, 24, 42, 180, 0, 7, 16, 19, 28, 96, 46, 27]
abbrev dktX6_hasScanner_0 : List UInt8 := dkwX6_hasScanner_0 ++ dktX6_hasScanner_1
theorem dksX6_hasScanner_0 : cX6_hasScanner.data.toList.drop 0 = dktX6_hasScanner_0 := by decide +kernel
theorem dksX6_hasScanner_1 : cX6_hasScanner.data.toList.drop 22 = dktX6_hasScanner_1 := dk_seg dksX6_hasScanner_0 22 rfl rfl
theorem dX6_hasScanner_0 : decode cX6_hasScanner 0 = .ok (.iconst 0, 1) := dk_3 (dk_at dksX6_hasScanner_0 0 rfl rfl)
theorem dX6_hasScanner_1 : decode cX6_hasScanner 1 = .ok (.istore_n 2, 1) := dk_61 (dk_at dksX6_hasScanner_0 1 rfl rfl)
theorem dX6_hasScanner_2 : decode cX6_hasScanner 2 = .ok (.iload_n 2, 1) := dk_28 (dk_at dksX6_hasScanner_0 2 rfl rfl)
theorem dX6_hasScanner_3 : decode cX6_hasScanner 3 = .ok (.aload_n 0, 1) := dk_42 (dk_at dksX6_hasScanner_0 3 rfl rfl)
theorem dX6_hasScanner_4 : decode cX6_hasScanner 4 = .ok (.getfield 7, 3) := dk_180 0 7 (dk_at dksX6_hasScanner_0 4 rfl rfl)
theorem dX6_hasScanner_7 : decode cX6_hasScanner 7 = .ok (.iconst 2, 1) := dk_5 (dk_at dksX6_hasScanner_0 7 rfl rfl)
theorem dX6_hasScanner_8 : decode cX6_hasScanner 8 = .ok (.iaload, 1) := dk_46 (dk_at dksX6_hasScanner_0 8 rfl rfl)
theorem dX6_hasScanner_9 : decode cX6_hasScanner 9 = .ok (.if_icmp .ge 24, 3) := dk_162 0 24 (dk_at dksX6_hasScanner_0 9 rfl rfl)
theorem dX6_hasScanner_12 : decode cX6_hasScanner 12 = .ok (.aload_n 0, 1) := dk_42 (dk_at dksX6_hasScanner_0 12 rfl rfl)
theorem dX6_hasScanner_13 : decode cX6_hasScanner 13 = .ok (.getfield 7, 3) := dk_180 0 7 (dk_at dksX6_hasScanner_0 13 rfl rfl)
theorem dX6_hasScanner_16 : decode cX6_hasScanner 16 = .ok (.bipush 19, 2) := dk_16 19 (dk_at dksX6_hasScanner_0 16 rfl rfl)
theorem dX6_hasScanner_18 : decode cX6_hasScanner 18 = .ok (.iload_n 2, 1) := dk_28 (dk_at dksX6_hasScanner_0 18 rfl rfl)
theorem dX6_hasScanner_19 : decode cX6_hasScanner 19 = .ok (.iadd, 1) := dk_96 (dk_at dksX6_hasScanner_0 19 rfl rfl)
theorem dX6_hasScanner_20 : decode cX6_hasScanner 20 = .ok (.iaload, 1) := dk_46 (dk_at dksX6_hasScanner_0 20 rfl rfl)
theorem dX6_hasScanner_21 : decode cX6_hasScanner 21 = .ok (.iload_n 1, 1) := dk_27 (dk_at dksX6_hasScanner_0 21 rfl rfl)
theorem dX6_hasScanner_22 : decode cX6_hasScanner 22 = .ok (.if_icmp .ne 5, 3) := dk_160 0 5 (dk_at dksX6_hasScanner_1 0 rfl rfl)
theorem dX6_hasScanner_25 : decode cX6_hasScanner 25 = .ok (.iconst 1, 1) := dk_4 (dk_at dksX6_hasScanner_1 3 rfl rfl)
theorem dX6_hasScanner_26 : decode cX6_hasScanner 26 = .ok (.ireturn, 1) := dk_172 (dk_at dksX6_hasScanner_1 4 rfl rfl)
theorem dX6_hasScanner_27 : decode cX6_hasScanner 27 = .ok (.iinc 2 1, 3) := dk_132 2 1 (dk_at dksX6_hasScanner_1 5 rfl rfl)
theorem dX6_hasScanner_30 : decode cX6_hasScanner 30 = .ok (.goto (-28), 3) := dk_167 255 228 (dk_at dksX6_hasScanner_1 8 rfl rfl)
theorem dX6_hasScanner_33 : decode cX6_hasScanner 33 = .ok (.iconst 0, 1) := dk_3 (dk_at dksX6_hasScanner_1 11 rfl rfl)
theorem dX6_hasScanner_34 : decode cX6_hasScanner 34 = .ok (.ireturn, 1) := dk_172 (dk_at dksX6_hasScanner_1 12 rfl rfl)
abbrev cX6_readChute : ByteArray := prog_19_method_56_code
def yX6_readChute : MethodName := ⟨RX6, "readChute", "()Z"⟩
def dkwX6_readChute_5 : List UInt8 := [180, 0, 32, 5, 46, 42, 180, 0, 32, 6, 46, 182, 0, 51, 42, 182, 0, 214, 172]
abbrev dktX6_readChute_5 : List UInt8 := dkwX6_readChute_5 ++ []
def dkwX6_readChute_4 : List UInt8 := [16, 9, 182, 0, 211, 154, 0, 5, 3, 172, 42, 42, 180, 0, 32, 3, 46, 42, 180, 0, 32, 4, 46, 42]
abbrev dktX6_readChute_4 : List UInt8 := dkwX6_readChute_4 ++ dktX6_readChute_5
def dkwX6_readChute_3 : List UInt8 := [4, 4, 16, 9, 182, 0, 211, 153, 0, 24, 42, 5, 3, 6, 182, 0, 211, 153, 0, 14, 42, 6, 3]
abbrev dktX6_readChute_3 : List UInt8 := dkwX6_readChute_3 ++ dktX6_readChute_4
def dkwX6_readChute_2 : List UInt8 := [159, 0, 9, 42, 6, 182, 0, 190, 172, 42, 180, 0, 32, 3, 42, 180, 0, 193, 79, 42, 182, 0, 199, 42]
abbrev dktX6_readChute_2 : List UInt8 := dkwX6_readChute_2 ++ dktX6_readChute_3
def dkwX6_readChute_1 : List UInt8 := [180, 0, 7, 3, 46, 4, 100, 182, 0, 196, 154, 0, 5, 3, 172, 42, 42, 180, 0, 193, 182, 0, 218, 2]
abbrev dktX6_readChute_1 : List UInt8 := dkwX6_readChute_1 ++ dktX6_readChute_2
def dkwX6_readChute_0 : List UInt8 := [42, 180, 0, 7, 6, 46, 16, 6, 160, 0, 9, 42, 7, 182, 0, 190, 172, 42, 182, 0, 199, 42, 3, 42]
abbrev dktX6_readChute_0 : List UInt8 := dkwX6_readChute_0 ++ dktX6_readChute_1
theorem dksX6_readChute_0 : cX6_readChute.data.toList.drop 0 = dktX6_readChute_0 := by decide +kernel
theorem dksX6_readChute_1 : cX6_readChute.data.toList.drop 24 = dktX6_readChute_1 := dk_seg dksX6_readChute_0 24 rfl rfl
theorem dksX6_readChute_2 : cX6_readChute.data.toList.drop 48 = dktX6_readChute_2 := dk_seg dksX6_readChute_1 24 rfl rfl
theorem dksX6_readChute_3 : cX6_readChute.data.toList.drop 72 = dktX6_readChute_3 := dk_seg dksX6_readChute_2 24 rfl rfl
theorem dksX6_readChute_4 : cX6_readChute.data.toList.drop 95 = dktX6_readChute_4 := dk_seg dksX6_readChute_3 23 rfl rfl
theorem dksX6_readChute_5 : cX6_readChute.data.toList.drop 119 = dktX6_readChute_5 := dk_seg dksX6_readChute_4 24 rfl rfl
theorem dX6_readChute_0 : decode cX6_readChute 0 = .ok (.aload_n 0, 1) := dk_42 (dk_at dksX6_readChute_0 0 rfl rfl)
theorem dX6_readChute_1 : decode cX6_readChute 1 = .ok (.getfield 7, 3) := dk_180 0 7 (dk_at dksX6_readChute_0 1 rfl rfl)
theorem dX6_readChute_4 : decode cX6_readChute 4 = .ok (.iconst 3, 1) := dk_6 (dk_at dksX6_readChute_0 4 rfl rfl)
theorem dX6_readChute_5 : decode cX6_readChute 5 = .ok (.iaload, 1) := dk_46 (dk_at dksX6_readChute_0 5 rfl rfl)
theorem dX6_readChute_6 : decode cX6_readChute 6 = .ok (.bipush 6, 2) := dk_16 6 (dk_at dksX6_readChute_0 6 rfl rfl)
theorem dX6_readChute_8 : decode cX6_readChute 8 = .ok (.if_icmp .ne 9, 3) := dk_160 0 9 (dk_at dksX6_readChute_0 8 rfl rfl)
theorem dX6_readChute_11 : decode cX6_readChute 11 = .ok (.aload_n 0, 1) := dk_42 (dk_at dksX6_readChute_0 11 rfl rfl)
theorem dX6_readChute_12 : decode cX6_readChute 12 = .ok (.iconst 4, 1) := dk_7 (dk_at dksX6_readChute_0 12 rfl rfl)
theorem dX6_readChute_13 : decode cX6_readChute 13 = .ok (.invokevirtual 190, 3) := dk_182 0 190 (dk_at dksX6_readChute_0 13 rfl rfl)
theorem dX6_readChute_16 : decode cX6_readChute 16 = .ok (.ireturn, 1) := dk_172 (dk_at dksX6_readChute_0 16 rfl rfl)
theorem dX6_readChute_17 : decode cX6_readChute 17 = .ok (.aload_n 0, 1) := dk_42 (dk_at dksX6_readChute_0 17 rfl rfl)
theorem dX6_readChute_18 : decode cX6_readChute 18 = .ok (.invokevirtual 199, 3) := dk_182 0 199 (dk_at dksX6_readChute_0 18 rfl rfl)
theorem dX6_readChute_21 : decode cX6_readChute 21 = .ok (.aload_n 0, 1) := dk_42 (dk_at dksX6_readChute_0 21 rfl rfl)
theorem dX6_readChute_22 : decode cX6_readChute 22 = .ok (.iconst 0, 1) := dk_3 (dk_at dksX6_readChute_0 22 rfl rfl)
theorem dX6_readChute_23 : decode cX6_readChute 23 = .ok (.aload_n 0, 1) := dk_42 (dk_at dksX6_readChute_0 23 rfl rfl)
theorem dX6_readChute_24 : decode cX6_readChute 24 = .ok (.getfield 7, 3) := dk_180 0 7 (dk_at dksX6_readChute_1 0 rfl rfl)
theorem dX6_readChute_27 : decode cX6_readChute 27 = .ok (.iconst 0, 1) := dk_3 (dk_at dksX6_readChute_1 3 rfl rfl)
theorem dX6_readChute_28 : decode cX6_readChute 28 = .ok (.iaload, 1) := dk_46 (dk_at dksX6_readChute_1 4 rfl rfl)
theorem dX6_readChute_29 : decode cX6_readChute 29 = .ok (.iconst 1, 1) := dk_4 (dk_at dksX6_readChute_1 5 rfl rfl)
theorem dX6_readChute_30 : decode cX6_readChute 30 = .ok (.isub, 1) := dk_100 (dk_at dksX6_readChute_1 6 rfl rfl)
theorem dX6_readChute_31 : decode cX6_readChute 31 = .ok (.invokevirtual 196, 3) := dk_182 0 196 (dk_at dksX6_readChute_1 7 rfl rfl)
theorem dX6_readChute_34 : decode cX6_readChute 34 = .ok (.ifCond .ne 5, 3) := dk_154 0 5 (dk_at dksX6_readChute_1 10 rfl rfl)
theorem dX6_readChute_37 : decode cX6_readChute 37 = .ok (.iconst 0, 1) := dk_3 (dk_at dksX6_readChute_1 13 rfl rfl)
theorem dX6_readChute_38 : decode cX6_readChute 38 = .ok (.ireturn, 1) := dk_172 (dk_at dksX6_readChute_1 14 rfl rfl)
theorem dX6_readChute_39 : decode cX6_readChute 39 = .ok (.aload_n 0, 1) := dk_42 (dk_at dksX6_readChute_1 15 rfl rfl)
theorem dX6_readChute_40 : decode cX6_readChute 40 = .ok (.aload_n 0, 1) := dk_42 (dk_at dksX6_readChute_1 16 rfl rfl)
theorem dX6_readChute_41 : decode cX6_readChute 41 = .ok (.getfield 193, 3) := dk_180 0 193 (dk_at dksX6_readChute_1 17 rfl rfl)
theorem dX6_readChute_44 : decode cX6_readChute 44 = .ok (.invokevirtual 218, 3) := dk_182 0 218 (dk_at dksX6_readChute_1 20 rfl rfl)
theorem dX6_readChute_47 : decode cX6_readChute 47 = .ok (.iconst (-1), 1) := dk_2 (dk_at dksX6_readChute_1 23 rfl rfl)
theorem dX6_readChute_48 : decode cX6_readChute 48 = .ok (.if_icmp .eq 9, 3) := dk_159 0 9 (dk_at dksX6_readChute_2 0 rfl rfl)
theorem dX6_readChute_51 : decode cX6_readChute 51 = .ok (.aload_n 0, 1) := dk_42 (dk_at dksX6_readChute_2 3 rfl rfl)
theorem dX6_readChute_52 : decode cX6_readChute 52 = .ok (.iconst 3, 1) := dk_6 (dk_at dksX6_readChute_2 4 rfl rfl)
theorem dX6_readChute_53 : decode cX6_readChute 53 = .ok (.invokevirtual 190, 3) := dk_182 0 190 (dk_at dksX6_readChute_2 5 rfl rfl)
theorem dX6_readChute_56 : decode cX6_readChute 56 = .ok (.ireturn, 1) := dk_172 (dk_at dksX6_readChute_2 8 rfl rfl)
theorem dX6_readChute_57 : decode cX6_readChute 57 = .ok (.aload_n 0, 1) := dk_42 (dk_at dksX6_readChute_2 9 rfl rfl)
theorem dX6_readChute_58 : decode cX6_readChute 58 = .ok (.getfield 32, 3) := dk_180 0 32 (dk_at dksX6_readChute_2 10 rfl rfl)
theorem dX6_readChute_61 : decode cX6_readChute 61 = .ok (.iconst 0, 1) := dk_3 (dk_at dksX6_readChute_2 13 rfl rfl)
theorem dX6_readChute_62 : decode cX6_readChute 62 = .ok (.aload_n 0, 1) := dk_42 (dk_at dksX6_readChute_2 14 rfl rfl)
theorem dX6_readChute_63 : decode cX6_readChute 63 = .ok (.getfield 193, 3) := dk_180 0 193 (dk_at dksX6_readChute_2 15 rfl rfl)
theorem dX6_readChute_66 : decode cX6_readChute 66 = .ok (.iastore, 1) := dk_79 (dk_at dksX6_readChute_2 18 rfl rfl)
theorem dX6_readChute_67 : decode cX6_readChute 67 = .ok (.aload_n 0, 1) := dk_42 (dk_at dksX6_readChute_2 19 rfl rfl)
theorem dX6_readChute_68 : decode cX6_readChute 68 = .ok (.invokevirtual 199, 3) := dk_182 0 199 (dk_at dksX6_readChute_2 20 rfl rfl)
theorem dX6_readChute_71 : decode cX6_readChute 71 = .ok (.aload_n 0, 1) := dk_42 (dk_at dksX6_readChute_2 23 rfl rfl)
theorem dX6_readChute_72 : decode cX6_readChute 72 = .ok (.iconst 1, 1) := dk_4 (dk_at dksX6_readChute_3 0 rfl rfl)
theorem dX6_readChute_73 : decode cX6_readChute 73 = .ok (.iconst 1, 1) := dk_4 (dk_at dksX6_readChute_3 1 rfl rfl)
theorem dX6_readChute_74 : decode cX6_readChute 74 = .ok (.bipush 9, 2) := dk_16 9 (dk_at dksX6_readChute_3 2 rfl rfl)
theorem dX6_readChute_76 : decode cX6_readChute 76 = .ok (.invokevirtual 211, 3) := dk_182 0 211 (dk_at dksX6_readChute_3 4 rfl rfl)
theorem dX6_readChute_79 : decode cX6_readChute 79 = .ok (.ifCond .eq 24, 3) := dk_153 0 24 (dk_at dksX6_readChute_3 7 rfl rfl)
theorem dX6_readChute_82 : decode cX6_readChute 82 = .ok (.aload_n 0, 1) := dk_42 (dk_at dksX6_readChute_3 10 rfl rfl)
theorem dX6_readChute_83 : decode cX6_readChute 83 = .ok (.iconst 2, 1) := dk_5 (dk_at dksX6_readChute_3 11 rfl rfl)
theorem dX6_readChute_84 : decode cX6_readChute 84 = .ok (.iconst 0, 1) := dk_3 (dk_at dksX6_readChute_3 12 rfl rfl)
theorem dX6_readChute_85 : decode cX6_readChute 85 = .ok (.iconst 3, 1) := dk_6 (dk_at dksX6_readChute_3 13 rfl rfl)
theorem dX6_readChute_86 : decode cX6_readChute 86 = .ok (.invokevirtual 211, 3) := dk_182 0 211 (dk_at dksX6_readChute_3 14 rfl rfl)
theorem dX6_readChute_89 : decode cX6_readChute 89 = .ok (.ifCond .eq 14, 3) := dk_153 0 14 (dk_at dksX6_readChute_3 17 rfl rfl)
theorem dX6_readChute_92 : decode cX6_readChute 92 = .ok (.aload_n 0, 1) := dk_42 (dk_at dksX6_readChute_3 20 rfl rfl)
theorem dX6_readChute_93 : decode cX6_readChute 93 = .ok (.iconst 3, 1) := dk_6 (dk_at dksX6_readChute_3 21 rfl rfl)
theorem dX6_readChute_94 : decode cX6_readChute 94 = .ok (.iconst 0, 1) := dk_3 (dk_at dksX6_readChute_3 22 rfl rfl)
theorem dX6_readChute_95 : decode cX6_readChute 95 = .ok (.bipush 9, 2) := dk_16 9 (dk_at dksX6_readChute_4 0 rfl rfl)
theorem dX6_readChute_97 : decode cX6_readChute 97 = .ok (.invokevirtual 211, 3) := dk_182 0 211 (dk_at dksX6_readChute_4 2 rfl rfl)
theorem dX6_readChute_100 : decode cX6_readChute 100 = .ok (.ifCond .ne 5, 3) := dk_154 0 5 (dk_at dksX6_readChute_4 5 rfl rfl)
theorem dX6_readChute_103 : decode cX6_readChute 103 = .ok (.iconst 0, 1) := dk_3 (dk_at dksX6_readChute_4 8 rfl rfl)
theorem dX6_readChute_104 : decode cX6_readChute 104 = .ok (.ireturn, 1) := dk_172 (dk_at dksX6_readChute_4 9 rfl rfl)
theorem dX6_readChute_105 : decode cX6_readChute 105 = .ok (.aload_n 0, 1) := dk_42 (dk_at dksX6_readChute_4 10 rfl rfl)
theorem dX6_readChute_106 : decode cX6_readChute 106 = .ok (.aload_n 0, 1) := dk_42 (dk_at dksX6_readChute_4 11 rfl rfl)
theorem dX6_readChute_107 : decode cX6_readChute 107 = .ok (.getfield 32, 3) := dk_180 0 32 (dk_at dksX6_readChute_4 12 rfl rfl)
theorem dX6_readChute_110 : decode cX6_readChute 110 = .ok (.iconst 0, 1) := dk_3 (dk_at dksX6_readChute_4 15 rfl rfl)
theorem dX6_readChute_111 : decode cX6_readChute 111 = .ok (.iaload, 1) := dk_46 (dk_at dksX6_readChute_4 16 rfl rfl)
theorem dX6_readChute_112 : decode cX6_readChute 112 = .ok (.aload_n 0, 1) := dk_42 (dk_at dksX6_readChute_4 17 rfl rfl)
theorem dX6_readChute_113 : decode cX6_readChute 113 = .ok (.getfield 32, 3) := dk_180 0 32 (dk_at dksX6_readChute_4 18 rfl rfl)
theorem dX6_readChute_116 : decode cX6_readChute 116 = .ok (.iconst 1, 1) := dk_4 (dk_at dksX6_readChute_4 21 rfl rfl)
theorem dX6_readChute_117 : decode cX6_readChute 117 = .ok (.iaload, 1) := dk_46 (dk_at dksX6_readChute_4 22 rfl rfl)
theorem dX6_readChute_118 : decode cX6_readChute 118 = .ok (.aload_n 0, 1) := dk_42 (dk_at dksX6_readChute_4 23 rfl rfl)
theorem dX6_readChute_119 : decode cX6_readChute 119 = .ok (.getfield 32, 3) := dk_180 0 32 (dk_at dksX6_readChute_5 0 rfl rfl)
theorem dX6_readChute_122 : decode cX6_readChute 122 = .ok (.iconst 2, 1) := dk_5 (dk_at dksX6_readChute_5 3 rfl rfl)
theorem dX6_readChute_123 : decode cX6_readChute 123 = .ok (.iaload, 1) := dk_46 (dk_at dksX6_readChute_5 4 rfl rfl)
theorem dX6_readChute_124 : decode cX6_readChute 124 = .ok (.aload_n 0, 1) := dk_42 (dk_at dksX6_readChute_5 5 rfl rfl)
theorem dX6_readChute_125 : decode cX6_readChute 125 = .ok (.getfield 32, 3) := dk_180 0 32 (dk_at dksX6_readChute_5 6 rfl rfl)
theorem dX6_readChute_128 : decode cX6_readChute 128 = .ok (.iconst 3, 1) := dk_6 (dk_at dksX6_readChute_5 9 rfl rfl)
theorem dX6_readChute_129 : decode cX6_readChute 129 = .ok (.iaload, 1) := dk_46 (dk_at dksX6_readChute_5 10 rfl rfl)
theorem dX6_readChute_130 : decode cX6_readChute 130 = .ok (.invokevirtual 51, 3) := dk_182 0 51 (dk_at dksX6_readChute_5 11 rfl rfl)
theorem dX6_readChute_133 : decode cX6_readChute 133 = .ok (.aload_n 0, 1) := dk_42 (dk_at dksX6_readChute_5 14 rfl rfl)
theorem dX6_readChute_134 : decode cX6_readChute 134 = .ok (.invokevirtual 214, 3) := dk_182 0 214 (dk_at dksX6_readChute_5 15 rfl rfl)
theorem dX6_readChute_137 : decode cX6_readChute 137 = .ok (.ireturn, 1) := dk_172 (dk_at dksX6_readChute_5 18 rfl rfl)
abbrev cX6_chuteAt : ByteArray := prog_19_method_20_code
def yX6_chuteAt : MethodName := ⟨RX6, "chuteAt", "(I)I"⟩
def dkwX6_chuteAt_1 : List UInt8 := [132, 2, 1, 167, 255, 231, 2, 172]
abbrev dktX6_chuteAt_1 : List UInt8 := dkwX6_chuteAt_1 ++ []
def dkwX6_chuteAt_0 : List UInt8 := [3, 61, 28, 42, 180, 0, 7, 6, 46, 162, 0, 21, 42, 28, 3, 182, 0, 78, 27, 160, 0, 5, 28, 172]
abbrev dktX6_chuteAt_0 : List UInt8 := dkwX6_chuteAt_0 ++ dktX6_chuteAt_1
theorem dksX6_chuteAt_0 : cX6_chuteAt.data.toList.drop 0 = dktX6_chuteAt_0 := by decide +kernel
theorem dksX6_chuteAt_1 : cX6_chuteAt.data.toList.drop 24 = dktX6_chuteAt_1 := dk_seg dksX6_chuteAt_0 24 rfl rfl
theorem dX6_chuteAt_0 : decode cX6_chuteAt 0 = .ok (.iconst 0, 1) := dk_3 (dk_at dksX6_chuteAt_0 0 rfl rfl)
theorem dX6_chuteAt_1 : decode cX6_chuteAt 1 = .ok (.istore_n 2, 1) := dk_61 (dk_at dksX6_chuteAt_0 1 rfl rfl)
theorem dX6_chuteAt_2 : decode cX6_chuteAt 2 = .ok (.iload_n 2, 1) := dk_28 (dk_at dksX6_chuteAt_0 2 rfl rfl)
theorem dX6_chuteAt_3 : decode cX6_chuteAt 3 = .ok (.aload_n 0, 1) := dk_42 (dk_at dksX6_chuteAt_0 3 rfl rfl)
theorem dX6_chuteAt_4 : decode cX6_chuteAt 4 = .ok (.getfield 7, 3) := dk_180 0 7 (dk_at dksX6_chuteAt_0 4 rfl rfl)
theorem dX6_chuteAt_7 : decode cX6_chuteAt 7 = .ok (.iconst 3, 1) := dk_6 (dk_at dksX6_chuteAt_0 7 rfl rfl)
theorem dX6_chuteAt_8 : decode cX6_chuteAt 8 = .ok (.iaload, 1) := dk_46 (dk_at dksX6_chuteAt_0 8 rfl rfl)
theorem dX6_chuteAt_9 : decode cX6_chuteAt 9 = .ok (.if_icmp .ge 21, 3) := dk_162 0 21 (dk_at dksX6_chuteAt_0 9 rfl rfl)
theorem dX6_chuteAt_12 : decode cX6_chuteAt 12 = .ok (.aload_n 0, 1) := dk_42 (dk_at dksX6_chuteAt_0 12 rfl rfl)
theorem dX6_chuteAt_13 : decode cX6_chuteAt 13 = .ok (.iload_n 2, 1) := dk_28 (dk_at dksX6_chuteAt_0 13 rfl rfl)
theorem dX6_chuteAt_14 : decode cX6_chuteAt 14 = .ok (.iconst 0, 1) := dk_3 (dk_at dksX6_chuteAt_0 14 rfl rfl)
theorem dX6_chuteAt_15 : decode cX6_chuteAt 15 = .ok (.invokevirtual 78, 3) := dk_182 0 78 (dk_at dksX6_chuteAt_0 15 rfl rfl)
theorem dX6_chuteAt_18 : decode cX6_chuteAt 18 = .ok (.iload_n 1, 1) := dk_27 (dk_at dksX6_chuteAt_0 18 rfl rfl)
theorem dX6_chuteAt_19 : decode cX6_chuteAt 19 = .ok (.if_icmp .ne 5, 3) := dk_160 0 5 (dk_at dksX6_chuteAt_0 19 rfl rfl)
theorem dX6_chuteAt_22 : decode cX6_chuteAt 22 = .ok (.iload_n 2, 1) := dk_28 (dk_at dksX6_chuteAt_0 22 rfl rfl)
theorem dX6_chuteAt_23 : decode cX6_chuteAt 23 = .ok (.ireturn, 1) := dk_172 (dk_at dksX6_chuteAt_0 23 rfl rfl)
theorem dX6_chuteAt_24 : decode cX6_chuteAt 24 = .ok (.iinc 2 1, 3) := dk_132 2 1 (dk_at dksX6_chuteAt_1 0 rfl rfl)
theorem dX6_chuteAt_27 : decode cX6_chuteAt 27 = .ok (.goto (-25), 3) := dk_167 255 231 (dk_at dksX6_chuteAt_1 3 rfl rfl)
theorem dX6_chuteAt_30 : decode cX6_chuteAt 30 = .ok (.iconst (-1), 1) := dk_2 (dk_at dksX6_chuteAt_1 6 rfl rfl)
theorem dX6_chuteAt_31 : decode cX6_chuteAt 31 = .ok (.ireturn, 1) := dk_172 (dk_at dksX6_chuteAt_1 7 rfl rfl)
abbrev cX6_ofChute : ByteArray := prog_19_method_9_code
def yX6_ofChute : MethodName := ⟨RX6, "ofChute", "(II)I"⟩
def dkwX6_ofChute_0 : List UInt8 := [42, 180, 0, 7, 16, 23, 16, 17, 27, 104, 96, 28, 96, 46, 172]
abbrev dktX6_ofChute_0 : List UInt8 := dkwX6_ofChute_0 ++ []
theorem dksX6_ofChute_0 : cX6_ofChute.data.toList.drop 0 = dktX6_ofChute_0 := by decide +kernel
theorem dX6_ofChute_0 : decode cX6_ofChute 0 = .ok (.aload_n 0, 1) := dk_42 (dk_at dksX6_ofChute_0 0 rfl rfl)
theorem dX6_ofChute_1 : decode cX6_ofChute 1 = .ok (.getfield 7, 3) := dk_180 0 7 (dk_at dksX6_ofChute_0 1 rfl rfl)
theorem dX6_ofChute_4 : decode cX6_ofChute 4 = .ok (.bipush 23, 2) := dk_16 23 (dk_at dksX6_ofChute_0 4 rfl rfl)
theorem dX6_ofChute_6 : decode cX6_ofChute 6 = .ok (.bipush 17, 2) := dk_16 17 (dk_at dksX6_ofChute_0 6 rfl rfl)
theorem dX6_ofChute_8 : decode cX6_ofChute 8 = .ok (.iload_n 1, 1) := dk_27 (dk_at dksX6_ofChute_0 8 rfl rfl)
theorem dX6_ofChute_9 : decode cX6_ofChute 9 = .ok (.imul, 1) := dk_104 (dk_at dksX6_ofChute_0 9 rfl rfl)
theorem dX6_ofChute_10 : decode cX6_ofChute 10 = .ok (.iadd, 1) := dk_96 (dk_at dksX6_ofChute_0 10 rfl rfl)
theorem dX6_ofChute_11 : decode cX6_ofChute 11 = .ok (.iload_n 2, 1) := dk_28 (dk_at dksX6_ofChute_0 11 rfl rfl)
theorem dX6_ofChute_12 : decode cX6_ofChute 12 = .ok (.iadd, 1) := dk_96 (dk_at dksX6_ofChute_0 12 rfl rfl)
theorem dX6_ofChute_13 : decode cX6_ofChute 13 = .ok (.iaload, 1) := dk_46 (dk_at dksX6_ofChute_0 13 rfl rfl)
theorem dX6_ofChute_14 : decode cX6_ofChute 14 = .ok (.ireturn, 1) := dk_172 (dk_at dksX6_ofChute_0 14 rfl rfl)
abbrev cX6_readRounds : ByteArray := prog_19_method_57_code
def yX6_readRounds : MethodName := ⟨RX6, "readRounds", "()Z"⟩
def dkwX6_readRounds_1 : List UInt8 := [180, 0, 32, 3, 46, 79, 42, 182, 0, 214, 172]
abbrev dktX6_readRounds_1 : List UInt8 := dkwX6_readRounds_1 ++ []
def dkwX6_readRounds_0 : List UInt8 := [42, 182, 0, 199, 42, 3, 4, 16, 9, 182, 0, 211, 154, 0, 5, 3, 172, 42, 180, 0, 7, 16, 6, 42]
abbrev dktX6_readRounds_0 : List UInt8 := dkwX6_readRounds_0 ++ dktX6_readRounds_1
theorem dksX6_readRounds_0 : cX6_readRounds.data.toList.drop 0 = dktX6_readRounds_0 := by decide +kernel
theorem dksX6_readRounds_1 : cX6_readRounds.data.toList.drop 24 = dktX6_readRounds_1 := dk_seg dksX6_readRounds_0 24 rfl rfl
theorem dX6_readRounds_0 : decode cX6_readRounds 0 = .ok (.aload_n 0, 1) := dk_42 (dk_at dksX6_readRounds_0 0 rfl rfl)
theorem dX6_readRounds_1 : decode cX6_readRounds 1 = .ok (.invokevirtual 199, 3) := dk_182 0 199 (dk_at dksX6_readRounds_0 1 rfl rfl)
theorem dX6_readRounds_4 : decode cX6_readRounds 4 = .ok (.aload_n 0, 1) := dk_42 (dk_at dksX6_readRounds_0 4 rfl rfl)
theorem dX6_readRounds_5 : decode cX6_readRounds 5 = .ok (.iconst 0, 1) := dk_3 (dk_at dksX6_readRounds_0 5 rfl rfl)
theorem dX6_readRounds_6 : decode cX6_readRounds 6 = .ok (.iconst 1, 1) := dk_4 (dk_at dksX6_readRounds_0 6 rfl rfl)
theorem dX6_readRounds_7 : decode cX6_readRounds 7 = .ok (.bipush 9, 2) := dk_16 9 (dk_at dksX6_readRounds_0 7 rfl rfl)
theorem dX6_readRounds_9 : decode cX6_readRounds 9 = .ok (.invokevirtual 211, 3) := dk_182 0 211 (dk_at dksX6_readRounds_0 9 rfl rfl)
theorem dX6_readRounds_12 : decode cX6_readRounds 12 = .ok (.ifCond .ne 5, 3) := dk_154 0 5 (dk_at dksX6_readRounds_0 12 rfl rfl)
theorem dX6_readRounds_15 : decode cX6_readRounds 15 = .ok (.iconst 0, 1) := dk_3 (dk_at dksX6_readRounds_0 15 rfl rfl)
theorem dX6_readRounds_16 : decode cX6_readRounds 16 = .ok (.ireturn, 1) := dk_172 (dk_at dksX6_readRounds_0 16 rfl rfl)
theorem dX6_readRounds_17 : decode cX6_readRounds 17 = .ok (.aload_n 0, 1) := dk_42 (dk_at dksX6_readRounds_0 17 rfl rfl)
theorem dX6_readRounds_18 : decode cX6_readRounds 18 = .ok (.getfield 7, 3) := dk_180 0 7 (dk_at dksX6_readRounds_0 18 rfl rfl)
theorem dX6_readRounds_21 : decode cX6_readRounds 21 = .ok (.bipush 6, 2) := dk_16 6 (dk_at dksX6_readRounds_0 21 rfl rfl)
theorem dX6_readRounds_23 : decode cX6_readRounds 23 = .ok (.aload_n 0, 1) := dk_42 (dk_at dksX6_readRounds_0 23 rfl rfl)
theorem dX6_readRounds_24 : decode cX6_readRounds 24 = .ok (.getfield 32, 3) := dk_180 0 32 (dk_at dksX6_readRounds_1 0 rfl rfl)
theorem dX6_readRounds_27 : decode cX6_readRounds 27 = .ok (.iconst 0, 1) := dk_3 (dk_at dksX6_readRounds_1 3 rfl rfl)
theorem dX6_readRounds_28 : decode cX6_readRounds 28 = .ok (.iaload, 1) := dk_46 (dk_at dksX6_readRounds_1 4 rfl rfl)
theorem dX6_readRounds_29 : decode cX6_readRounds 29 = .ok (.iastore, 1) := dk_79 (dk_at dksX6_readRounds_1 5 rfl rfl)
theorem dX6_readRounds_30 : decode cX6_readRounds 30 = .ok (.aload_n 0, 1) := dk_42 (dk_at dksX6_readRounds_1 6 rfl rfl)
theorem dX6_readRounds_31 : decode cX6_readRounds 31 = .ok (.invokevirtual 214, 3) := dk_182 0 214 (dk_at dksX6_readRounds_1 7 rfl rfl)
theorem dX6_readRounds_34 : decode cX6_readRounds 34 = .ok (.ireturn, 1) := dk_172 (dk_at dksX6_readRounds_1 10 rfl rfl)
abbrev cX6_endsText : ByteArray := prog_19_method_61_code
def yX6_endsText : MethodName := ⟨RX6, "endsText", "()V"⟩
def dkwX6_endsText_0 : List UInt8 := [42, 3, 181, 0, 146, 42, 42, 180, 0, 174, 181, 0, 245, 42, 42, 180, 0, 177, 181, 0, 28, 177]
abbrev dktX6_endsText_0 : List UInt8 := dkwX6_endsText_0 ++ []
theorem dksX6_endsText_0 : cX6_endsText.data.toList.drop 0 = dktX6_endsText_0 := by decide +kernel
theorem dX6_endsText_0 : decode cX6_endsText 0 = .ok (.aload_n 0, 1) := dk_42 (dk_at dksX6_endsText_0 0 rfl rfl)
theorem dX6_endsText_1 : decode cX6_endsText 1 = .ok (.iconst 0, 1) := dk_3 (dk_at dksX6_endsText_0 1 rfl rfl)
theorem dX6_endsText_2 : decode cX6_endsText 2 = .ok (.putfield 146, 3) := dk_181 0 146 (dk_at dksX6_endsText_0 2 rfl rfl)
theorem dX6_endsText_5 : decode cX6_endsText 5 = .ok (.aload_n 0, 1) := dk_42 (dk_at dksX6_endsText_0 5 rfl rfl)
theorem dX6_endsText_6 : decode cX6_endsText 6 = .ok (.aload_n 0, 1) := dk_42 (dk_at dksX6_endsText_0 6 rfl rfl)
theorem dX6_endsText_7 : decode cX6_endsText 7 = .ok (.getfield 174, 3) := dk_180 0 174 (dk_at dksX6_endsText_0 7 rfl rfl)
theorem dX6_endsText_10 : decode cX6_endsText 10 = .ok (.putfield 245, 3) := dk_181 0 245 (dk_at dksX6_endsText_0 10 rfl rfl)
theorem dX6_endsText_13 : decode cX6_endsText 13 = .ok (.aload_n 0, 1) := dk_42 (dk_at dksX6_endsText_0 13 rfl rfl)
theorem dX6_endsText_14 : decode cX6_endsText 14 = .ok (.aload_n 0, 1) := dk_42 (dk_at dksX6_endsText_0 14 rfl rfl)
theorem dX6_endsText_15 : decode cX6_endsText 15 = .ok (.getfield 177, 3) := dk_180 0 177 (dk_at dksX6_endsText_0 15 rfl rfl)
theorem dX6_endsText_18 : decode cX6_endsText 18 = .ok (.putfield 28, 3) := dk_181 0 28 (dk_at dksX6_endsText_0 18 rfl rfl)
theorem dX6_endsText_21 : decode cX6_endsText 21 = .ok (.return_, 1) := dk_177 (dk_at dksX6_endsText_0 21 rfl rfl)
abbrev cX6_playScript : ByteArray := prog_19_method_67_code
def yX6_playScript : MethodName := ⟨RX6, "playScript", "()I"⟩
def dkwX6_playScript_2 : List UInt8 := [42, 180, 0, 242, 162, 0, 17, 42, 28, 182, 1, 55, 153, 0, 9, 132, 2, 1, 167, 255, 237, 28, 172]
abbrev dktX6_playScript_2 : List UInt8 := dkwX6_playScript_2 ++ []
def dkwX6_playScript_1 : List UInt8 := [182, 1, 49, 60, 167, 255, 240, 42, 182, 0, 254, 27, 154, 0, 5, 2, 172, 42, 182, 1, 52, 3, 61, 28]
abbrev dktX6_playScript_1 : List UInt8 := dkwX6_playScript_1 ++ dktX6_playScript_2
def dkwX6_playScript_0 : List UInt8 := [42, 3, 181, 0, 55, 42, 182, 0, 248, 4, 60, 27, 153, 0, 18, 42, 180, 0, 168, 153, 0, 11, 42]
abbrev dktX6_playScript_0 : List UInt8 := dkwX6_playScript_0 ++ dktX6_playScript_1
theorem dksX6_playScript_0 : cX6_playScript.data.toList.drop 0 = dktX6_playScript_0 := by decide +kernel
theorem dksX6_playScript_1 : cX6_playScript.data.toList.drop 23 = dktX6_playScript_1 := dk_seg dksX6_playScript_0 23 rfl rfl
theorem dksX6_playScript_2 : cX6_playScript.data.toList.drop 47 = dktX6_playScript_2 := dk_seg dksX6_playScript_1 24 rfl rfl
theorem dX6_playScript_0 : decode cX6_playScript 0 = .ok (.aload_n 0, 1) := dk_42 (dk_at dksX6_playScript_0 0 rfl rfl)
theorem dX6_playScript_1 : decode cX6_playScript 1 = .ok (.iconst 0, 1) := dk_3 (dk_at dksX6_playScript_0 1 rfl rfl)
theorem dX6_playScript_2 : decode cX6_playScript 2 = .ok (.putfield 55, 3) := dk_181 0 55 (dk_at dksX6_playScript_0 2 rfl rfl)
theorem dX6_playScript_5 : decode cX6_playScript 5 = .ok (.aload_n 0, 1) := dk_42 (dk_at dksX6_playScript_0 5 rfl rfl)
theorem dX6_playScript_6 : decode cX6_playScript 6 = .ok (.invokevirtual 248, 3) := dk_182 0 248 (dk_at dksX6_playScript_0 6 rfl rfl)
theorem dX6_playScript_9 : decode cX6_playScript 9 = .ok (.iconst 1, 1) := dk_4 (dk_at dksX6_playScript_0 9 rfl rfl)
theorem dX6_playScript_10 : decode cX6_playScript 10 = .ok (.istore_n 1, 1) := dk_60 (dk_at dksX6_playScript_0 10 rfl rfl)
theorem dX6_playScript_11 : decode cX6_playScript 11 = .ok (.iload_n 1, 1) := dk_27 (dk_at dksX6_playScript_0 11 rfl rfl)
theorem dX6_playScript_12 : decode cX6_playScript 12 = .ok (.ifCond .eq 18, 3) := dk_153 0 18 (dk_at dksX6_playScript_0 12 rfl rfl)
theorem dX6_playScript_15 : decode cX6_playScript 15 = .ok (.aload_n 0, 1) := dk_42 (dk_at dksX6_playScript_0 15 rfl rfl)
theorem dX6_playScript_16 : decode cX6_playScript 16 = .ok (.getfield 168, 3) := dk_180 0 168 (dk_at dksX6_playScript_0 16 rfl rfl)
theorem dX6_playScript_19 : decode cX6_playScript 19 = .ok (.ifCond .eq 11, 3) := dk_153 0 11 (dk_at dksX6_playScript_0 19 rfl rfl)
theorem dX6_playScript_22 : decode cX6_playScript 22 = .ok (.aload_n 0, 1) := dk_42 (dk_at dksX6_playScript_0 22 rfl rfl)
theorem dX6_playScript_23 : decode cX6_playScript 23 = .ok (.invokevirtual 305, 3) := dk_182 1 49 (dk_at dksX6_playScript_1 0 rfl rfl)
theorem dX6_playScript_26 : decode cX6_playScript 26 = .ok (.istore_n 1, 1) := dk_60 (dk_at dksX6_playScript_1 3 rfl rfl)
theorem dX6_playScript_27 : decode cX6_playScript 27 = .ok (.goto (-16), 3) := dk_167 255 240 (dk_at dksX6_playScript_1 4 rfl rfl)
theorem dX6_playScript_30 : decode cX6_playScript 30 = .ok (.aload_n 0, 1) := dk_42 (dk_at dksX6_playScript_1 7 rfl rfl)
theorem dX6_playScript_31 : decode cX6_playScript 31 = .ok (.invokevirtual 254, 3) := dk_182 0 254 (dk_at dksX6_playScript_1 8 rfl rfl)
theorem dX6_playScript_34 : decode cX6_playScript 34 = .ok (.iload_n 1, 1) := dk_27 (dk_at dksX6_playScript_1 11 rfl rfl)
theorem dX6_playScript_35 : decode cX6_playScript 35 = .ok (.ifCond .ne 5, 3) := dk_154 0 5 (dk_at dksX6_playScript_1 12 rfl rfl)
theorem dX6_playScript_38 : decode cX6_playScript 38 = .ok (.iconst (-1), 1) := dk_2 (dk_at dksX6_playScript_1 15 rfl rfl)
theorem dX6_playScript_39 : decode cX6_playScript 39 = .ok (.ireturn, 1) := dk_172 (dk_at dksX6_playScript_1 16 rfl rfl)
theorem dX6_playScript_40 : decode cX6_playScript 40 = .ok (.aload_n 0, 1) := dk_42 (dk_at dksX6_playScript_1 17 rfl rfl)
theorem dX6_playScript_41 : decode cX6_playScript 41 = .ok (.invokevirtual 308, 3) := dk_182 1 52 (dk_at dksX6_playScript_1 18 rfl rfl)
theorem dX6_playScript_44 : decode cX6_playScript 44 = .ok (.iconst 0, 1) := dk_3 (dk_at dksX6_playScript_1 21 rfl rfl)
theorem dX6_playScript_45 : decode cX6_playScript 45 = .ok (.istore_n 2, 1) := dk_61 (dk_at dksX6_playScript_1 22 rfl rfl)
theorem dX6_playScript_46 : decode cX6_playScript 46 = .ok (.iload_n 2, 1) := dk_28 (dk_at dksX6_playScript_1 23 rfl rfl)
theorem dX6_playScript_47 : decode cX6_playScript 47 = .ok (.aload_n 0, 1) := dk_42 (dk_at dksX6_playScript_2 0 rfl rfl)
theorem dX6_playScript_48 : decode cX6_playScript 48 = .ok (.getfield 242, 3) := dk_180 0 242 (dk_at dksX6_playScript_2 1 rfl rfl)
theorem dX6_playScript_51 : decode cX6_playScript 51 = .ok (.if_icmp .ge 17, 3) := dk_162 0 17 (dk_at dksX6_playScript_2 4 rfl rfl)
theorem dX6_playScript_54 : decode cX6_playScript 54 = .ok (.aload_n 0, 1) := dk_42 (dk_at dksX6_playScript_2 7 rfl rfl)
theorem dX6_playScript_55 : decode cX6_playScript 55 = .ok (.iload_n 2, 1) := dk_28 (dk_at dksX6_playScript_2 8 rfl rfl)
theorem dX6_playScript_56 : decode cX6_playScript 56 = .ok (.invokevirtual 311, 3) := dk_182 1 55 (dk_at dksX6_playScript_2 9 rfl rfl)
theorem dX6_playScript_59 : decode cX6_playScript 59 = .ok (.ifCond .eq 9, 3) := dk_153 0 9 (dk_at dksX6_playScript_2 12 rfl rfl)
theorem dX6_playScript_62 : decode cX6_playScript 62 = .ok (.iinc 2 1, 3) := dk_132 2 1 (dk_at dksX6_playScript_2 15 rfl rfl)
theorem dX6_playScript_65 : decode cX6_playScript 65 = .ok (.goto (-19), 3) := dk_167 255 237 (dk_at dksX6_playScript_2 18 rfl rfl)
theorem dX6_playScript_68 : decode cX6_playScript 68 = .ok (.iload_n 2, 1) := dk_28 (dk_at dksX6_playScript_2 21 rfl rfl)
theorem dX6_playScript_69 : decode cX6_playScript 69 = .ok (.ireturn, 1) := dk_172 (dk_at dksX6_playScript_2 22 rfl rfl)
abbrev cX6_readScriptStatement : ByteArray := prog_19_method_65_code
def yX6_readScriptStatement : MethodName := ⟨RX6, "readScriptStatement", "()Z"⟩
def dkwX6_readScriptStatement_4 : List UInt8 := [172]
abbrev dktX6_readScriptStatement_4 : List UInt8 := dkwX6_readScriptStatement_4 ++ []
def dkwX6_readScriptStatement_3 : List UInt8 := [180, 0, 242, 42, 180, 0, 32, 4, 46, 79, 42, 89, 180, 0, 242, 4, 96, 181, 0, 242, 42, 182, 0, 214]
abbrev dktX6_readScriptStatement_3 : List UInt8 := dkwX6_readScriptStatement_3 ++ dktX6_readScriptStatement_4
def dkwX6_readScriptStatement_2 : List UInt8 := [27, 79, 42, 180, 0, 38, 42, 180, 0, 242, 42, 180, 0, 32, 3, 46, 79, 42, 180, 0, 41, 42]
abbrev dktX6_readScriptStatement_2 : List UInt8 := dkwX6_readScriptStatement_2 ++ dktX6_readScriptStatement_3
def dkwX6_readScriptStatement_1 : List UInt8 := [42, 7, 182, 0, 190, 172, 42, 27, 182, 1, 22, 154, 0, 5, 3, 172, 42, 180, 0, 35, 42, 180, 0, 242]
abbrev dktX6_readScriptStatement_1 : List UInt8 := dkwX6_readScriptStatement_1 ++ dktX6_readScriptStatement_2
def dkwX6_readScriptStatement_0 : List UInt8 := [42, 182, 1, 19, 60, 27, 154, 0, 9, 42, 4, 182, 0, 190, 172, 42, 180, 0, 242, 16, 30, 160, 0, 9]
abbrev dktX6_readScriptStatement_0 : List UInt8 := dkwX6_readScriptStatement_0 ++ dktX6_readScriptStatement_1
theorem dksX6_readScriptStatement_0 : cX6_readScriptStatement.data.toList.drop 0 = dktX6_readScriptStatement_0 := by decide +kernel
theorem dksX6_readScriptStatement_1 : cX6_readScriptStatement.data.toList.drop 24 = dktX6_readScriptStatement_1 := dk_seg dksX6_readScriptStatement_0 24 rfl rfl
theorem dksX6_readScriptStatement_2 : cX6_readScriptStatement.data.toList.drop 48 = dktX6_readScriptStatement_2 := dk_seg dksX6_readScriptStatement_1 24 rfl rfl
theorem dksX6_readScriptStatement_3 : cX6_readScriptStatement.data.toList.drop 70 = dktX6_readScriptStatement_3 := dk_seg dksX6_readScriptStatement_2 22 rfl rfl
theorem dksX6_readScriptStatement_4 : cX6_readScriptStatement.data.toList.drop 94 = dktX6_readScriptStatement_4 := dk_seg dksX6_readScriptStatement_3 24 rfl rfl
theorem dX6_readScriptStatement_0 : decode cX6_readScriptStatement 0 = .ok (.aload_n 0, 1) := dk_42 (dk_at dksX6_readScriptStatement_0 0 rfl rfl)
theorem dX6_readScriptStatement_1 : decode cX6_readScriptStatement 1 = .ok (.invokevirtual 275, 3) := dk_182 1 19 (dk_at dksX6_readScriptStatement_0 1 rfl rfl)
theorem dX6_readScriptStatement_4 : decode cX6_readScriptStatement 4 = .ok (.istore_n 1, 1) := dk_60 (dk_at dksX6_readScriptStatement_0 4 rfl rfl)
theorem dX6_readScriptStatement_5 : decode cX6_readScriptStatement 5 = .ok (.iload_n 1, 1) := dk_27 (dk_at dksX6_readScriptStatement_0 5 rfl rfl)
theorem dX6_readScriptStatement_6 : decode cX6_readScriptStatement 6 = .ok (.ifCond .ne 9, 3) := dk_154 0 9 (dk_at dksX6_readScriptStatement_0 6 rfl rfl)
theorem dX6_readScriptStatement_9 : decode cX6_readScriptStatement 9 = .ok (.aload_n 0, 1) := dk_42 (dk_at dksX6_readScriptStatement_0 9 rfl rfl)
theorem dX6_readScriptStatement_10 : decode cX6_readScriptStatement 10 = .ok (.iconst 1, 1) := dk_4 (dk_at dksX6_readScriptStatement_0 10 rfl rfl)
theorem dX6_readScriptStatement_11 : decode cX6_readScriptStatement 11 = .ok (.invokevirtual 190, 3) := dk_182 0 190 (dk_at dksX6_readScriptStatement_0 11 rfl rfl)
theorem dX6_readScriptStatement_14 : decode cX6_readScriptStatement 14 = .ok (.ireturn, 1) := dk_172 (dk_at dksX6_readScriptStatement_0 14 rfl rfl)
theorem dX6_readScriptStatement_15 : decode cX6_readScriptStatement 15 = .ok (.aload_n 0, 1) := dk_42 (dk_at dksX6_readScriptStatement_0 15 rfl rfl)
theorem dX6_readScriptStatement_16 : decode cX6_readScriptStatement 16 = .ok (.getfield 242, 3) := dk_180 0 242 (dk_at dksX6_readScriptStatement_0 16 rfl rfl)
theorem dX6_readScriptStatement_19 : decode cX6_readScriptStatement 19 = .ok (.bipush 30, 2) := dk_16 30 (dk_at dksX6_readScriptStatement_0 19 rfl rfl)
theorem dX6_readScriptStatement_21 : decode cX6_readScriptStatement 21 = .ok (.if_icmp .ne 9, 3) := dk_160 0 9 (dk_at dksX6_readScriptStatement_0 21 rfl rfl)
theorem dX6_readScriptStatement_24 : decode cX6_readScriptStatement 24 = .ok (.aload_n 0, 1) := dk_42 (dk_at dksX6_readScriptStatement_1 0 rfl rfl)
theorem dX6_readScriptStatement_25 : decode cX6_readScriptStatement 25 = .ok (.iconst 4, 1) := dk_7 (dk_at dksX6_readScriptStatement_1 1 rfl rfl)
theorem dX6_readScriptStatement_26 : decode cX6_readScriptStatement 26 = .ok (.invokevirtual 190, 3) := dk_182 0 190 (dk_at dksX6_readScriptStatement_1 2 rfl rfl)
theorem dX6_readScriptStatement_29 : decode cX6_readScriptStatement 29 = .ok (.ireturn, 1) := dk_172 (dk_at dksX6_readScriptStatement_1 5 rfl rfl)
theorem dX6_readScriptStatement_30 : decode cX6_readScriptStatement 30 = .ok (.aload_n 0, 1) := dk_42 (dk_at dksX6_readScriptStatement_1 6 rfl rfl)
theorem dX6_readScriptStatement_31 : decode cX6_readScriptStatement 31 = .ok (.iload_n 1, 1) := dk_27 (dk_at dksX6_readScriptStatement_1 7 rfl rfl)
theorem dX6_readScriptStatement_32 : decode cX6_readScriptStatement 32 = .ok (.invokevirtual 278, 3) := dk_182 1 22 (dk_at dksX6_readScriptStatement_1 8 rfl rfl)
theorem dX6_readScriptStatement_35 : decode cX6_readScriptStatement 35 = .ok (.ifCond .ne 5, 3) := dk_154 0 5 (dk_at dksX6_readScriptStatement_1 11 rfl rfl)
theorem dX6_readScriptStatement_38 : decode cX6_readScriptStatement 38 = .ok (.iconst 0, 1) := dk_3 (dk_at dksX6_readScriptStatement_1 14 rfl rfl)
theorem dX6_readScriptStatement_39 : decode cX6_readScriptStatement 39 = .ok (.ireturn, 1) := dk_172 (dk_at dksX6_readScriptStatement_1 15 rfl rfl)
theorem dX6_readScriptStatement_40 : decode cX6_readScriptStatement 40 = .ok (.aload_n 0, 1) := dk_42 (dk_at dksX6_readScriptStatement_1 16 rfl rfl)
theorem dX6_readScriptStatement_41 : decode cX6_readScriptStatement 41 = .ok (.getfield 35, 3) := dk_180 0 35 (dk_at dksX6_readScriptStatement_1 17 rfl rfl)
theorem dX6_readScriptStatement_44 : decode cX6_readScriptStatement 44 = .ok (.aload_n 0, 1) := dk_42 (dk_at dksX6_readScriptStatement_1 20 rfl rfl)
theorem dX6_readScriptStatement_45 : decode cX6_readScriptStatement 45 = .ok (.getfield 242, 3) := dk_180 0 242 (dk_at dksX6_readScriptStatement_1 21 rfl rfl)
theorem dX6_readScriptStatement_48 : decode cX6_readScriptStatement 48 = .ok (.iload_n 1, 1) := dk_27 (dk_at dksX6_readScriptStatement_2 0 rfl rfl)
theorem dX6_readScriptStatement_49 : decode cX6_readScriptStatement 49 = .ok (.iastore, 1) := dk_79 (dk_at dksX6_readScriptStatement_2 1 rfl rfl)
theorem dX6_readScriptStatement_50 : decode cX6_readScriptStatement 50 = .ok (.aload_n 0, 1) := dk_42 (dk_at dksX6_readScriptStatement_2 2 rfl rfl)
theorem dX6_readScriptStatement_51 : decode cX6_readScriptStatement 51 = .ok (.getfield 38, 3) := dk_180 0 38 (dk_at dksX6_readScriptStatement_2 3 rfl rfl)
theorem dX6_readScriptStatement_54 : decode cX6_readScriptStatement 54 = .ok (.aload_n 0, 1) := dk_42 (dk_at dksX6_readScriptStatement_2 6 rfl rfl)
theorem dX6_readScriptStatement_55 : decode cX6_readScriptStatement 55 = .ok (.getfield 242, 3) := dk_180 0 242 (dk_at dksX6_readScriptStatement_2 7 rfl rfl)
theorem dX6_readScriptStatement_58 : decode cX6_readScriptStatement 58 = .ok (.aload_n 0, 1) := dk_42 (dk_at dksX6_readScriptStatement_2 10 rfl rfl)
theorem dX6_readScriptStatement_59 : decode cX6_readScriptStatement 59 = .ok (.getfield 32, 3) := dk_180 0 32 (dk_at dksX6_readScriptStatement_2 11 rfl rfl)
theorem dX6_readScriptStatement_62 : decode cX6_readScriptStatement 62 = .ok (.iconst 0, 1) := dk_3 (dk_at dksX6_readScriptStatement_2 14 rfl rfl)
theorem dX6_readScriptStatement_63 : decode cX6_readScriptStatement 63 = .ok (.iaload, 1) := dk_46 (dk_at dksX6_readScriptStatement_2 15 rfl rfl)
theorem dX6_readScriptStatement_64 : decode cX6_readScriptStatement 64 = .ok (.iastore, 1) := dk_79 (dk_at dksX6_readScriptStatement_2 16 rfl rfl)
theorem dX6_readScriptStatement_65 : decode cX6_readScriptStatement 65 = .ok (.aload_n 0, 1) := dk_42 (dk_at dksX6_readScriptStatement_2 17 rfl rfl)
theorem dX6_readScriptStatement_66 : decode cX6_readScriptStatement 66 = .ok (.getfield 41, 3) := dk_180 0 41 (dk_at dksX6_readScriptStatement_2 18 rfl rfl)
theorem dX6_readScriptStatement_69 : decode cX6_readScriptStatement 69 = .ok (.aload_n 0, 1) := dk_42 (dk_at dksX6_readScriptStatement_2 21 rfl rfl)
theorem dX6_readScriptStatement_70 : decode cX6_readScriptStatement 70 = .ok (.getfield 242, 3) := dk_180 0 242 (dk_at dksX6_readScriptStatement_3 0 rfl rfl)
theorem dX6_readScriptStatement_73 : decode cX6_readScriptStatement 73 = .ok (.aload_n 0, 1) := dk_42 (dk_at dksX6_readScriptStatement_3 3 rfl rfl)
theorem dX6_readScriptStatement_74 : decode cX6_readScriptStatement 74 = .ok (.getfield 32, 3) := dk_180 0 32 (dk_at dksX6_readScriptStatement_3 4 rfl rfl)
theorem dX6_readScriptStatement_77 : decode cX6_readScriptStatement 77 = .ok (.iconst 1, 1) := dk_4 (dk_at dksX6_readScriptStatement_3 7 rfl rfl)
theorem dX6_readScriptStatement_78 : decode cX6_readScriptStatement 78 = .ok (.iaload, 1) := dk_46 (dk_at dksX6_readScriptStatement_3 8 rfl rfl)
theorem dX6_readScriptStatement_79 : decode cX6_readScriptStatement 79 = .ok (.iastore, 1) := dk_79 (dk_at dksX6_readScriptStatement_3 9 rfl rfl)
theorem dX6_readScriptStatement_80 : decode cX6_readScriptStatement 80 = .ok (.aload_n 0, 1) := dk_42 (dk_at dksX6_readScriptStatement_3 10 rfl rfl)
theorem dX6_readScriptStatement_81 : decode cX6_readScriptStatement 81 = .ok (.dup, 1) := dk_89 (dk_at dksX6_readScriptStatement_3 11 rfl rfl)
theorem dX6_readScriptStatement_82 : decode cX6_readScriptStatement 82 = .ok (.getfield 242, 3) := dk_180 0 242 (dk_at dksX6_readScriptStatement_3 12 rfl rfl)
theorem dX6_readScriptStatement_85 : decode cX6_readScriptStatement 85 = .ok (.iconst 1, 1) := dk_4 (dk_at dksX6_readScriptStatement_3 15 rfl rfl)
theorem dX6_readScriptStatement_86 : decode cX6_readScriptStatement 86 = .ok (.iadd, 1) := dk_96 (dk_at dksX6_readScriptStatement_3 16 rfl rfl)
theorem dX6_readScriptStatement_87 : decode cX6_readScriptStatement 87 = .ok (.putfield 242, 3) := dk_181 0 242 (dk_at dksX6_readScriptStatement_3 17 rfl rfl)
theorem dX6_readScriptStatement_90 : decode cX6_readScriptStatement 90 = .ok (.aload_n 0, 1) := dk_42 (dk_at dksX6_readScriptStatement_3 20 rfl rfl)
theorem dX6_readScriptStatement_91 : decode cX6_readScriptStatement 91 = .ok (.invokevirtual 214, 3) := dk_182 0 214 (dk_at dksX6_readScriptStatement_3 21 rfl rfl)
theorem dX6_readScriptStatement_94 : decode cX6_readScriptStatement 94 = .ok (.ireturn, 1) := dk_172 (dk_at dksX6_readScriptStatement_4 0 rfl rfl)
abbrev cX6_scriptHere : ByteArray := prog_19_method_63_code
def yX6_scriptHere : MethodName := ⟨RX6, "scriptHere", "()I"⟩
def dkwX6_scriptHere_4 : List UInt8 := [16, 8, 167, 0, 4, 3, 172]
abbrev dktX6_scriptHere_4 : List UInt8 := dkwX6_scriptHere_4 ++ []
def dkwX6_scriptHere_3 : List UInt8 := [172, 42, 19, 1, 17, 182, 0, 207, 153, 0, 6, 16, 7, 172, 42, 18, 231, 182, 0, 207, 153, 0, 8]
abbrev dktX6_scriptHere_3 : List UInt8 := dkwX6_scriptHere_3 ++ dktX6_scriptHere_4
def dkwX6_scriptHere_2 : List UInt8 := [42, 19, 1, 13, 182, 0, 207, 153, 0, 5, 8, 172, 42, 19, 1, 15, 182, 0, 207, 153, 0, 6, 16, 6]
abbrev dktX6_scriptHere_2 : List UInt8 := dkwX6_scriptHere_2 ++ dktX6_scriptHere_3
def dkwX6_scriptHere_1 : List UInt8 := [42, 19, 1, 9, 182, 0, 207, 153, 0, 5, 6, 172, 42, 19, 1, 11, 182, 0, 207, 153, 0, 5, 7, 172]
abbrev dktX6_scriptHere_1 : List UInt8 := dkwX6_scriptHere_1 ++ dktX6_scriptHere_2
def dkwX6_scriptHere_0 : List UInt8 := [42, 19, 1, 5, 182, 0, 207, 153, 0, 5, 4, 172, 42, 19, 1, 7, 182, 0, 207, 153, 0, 5, 5, 172]
abbrev dktX6_scriptHere_0 : List UInt8 := dkwX6_scriptHere_0 ++ dktX6_scriptHere_1
theorem dksX6_scriptHere_0 : cX6_scriptHere.data.toList.drop 0 = dktX6_scriptHere_0 := by decide +kernel
theorem dksX6_scriptHere_1 : cX6_scriptHere.data.toList.drop 24 = dktX6_scriptHere_1 := dk_seg dksX6_scriptHere_0 24 rfl rfl
theorem dksX6_scriptHere_2 : cX6_scriptHere.data.toList.drop 48 = dktX6_scriptHere_2 := dk_seg dksX6_scriptHere_1 24 rfl rfl
theorem dksX6_scriptHere_3 : cX6_scriptHere.data.toList.drop 72 = dktX6_scriptHere_3 := dk_seg dksX6_scriptHere_2 24 rfl rfl
theorem dksX6_scriptHere_4 : cX6_scriptHere.data.toList.drop 95 = dktX6_scriptHere_4 := dk_seg dksX6_scriptHere_3 23 rfl rfl
theorem dX6_scriptHere_0 : decode cX6_scriptHere 0 = .ok (.aload_n 0, 1) := dk_42 (dk_at dksX6_scriptHere_0 0 rfl rfl)
theorem dX6_scriptHere_1 : decode cX6_scriptHere 1 = .ok (.ldc_w 261, 3) := dk_19 1 5 (dk_at dksX6_scriptHere_0 1 rfl rfl)
theorem dX6_scriptHere_4 : decode cX6_scriptHere 4 = .ok (.invokevirtual 207, 3) := dk_182 0 207 (dk_at dksX6_scriptHere_0 4 rfl rfl)
theorem dX6_scriptHere_7 : decode cX6_scriptHere 7 = .ok (.ifCond .eq 5, 3) := dk_153 0 5 (dk_at dksX6_scriptHere_0 7 rfl rfl)
theorem dX6_scriptHere_10 : decode cX6_scriptHere 10 = .ok (.iconst 1, 1) := dk_4 (dk_at dksX6_scriptHere_0 10 rfl rfl)
theorem dX6_scriptHere_11 : decode cX6_scriptHere 11 = .ok (.ireturn, 1) := dk_172 (dk_at dksX6_scriptHere_0 11 rfl rfl)
theorem dX6_scriptHere_12 : decode cX6_scriptHere 12 = .ok (.aload_n 0, 1) := dk_42 (dk_at dksX6_scriptHere_0 12 rfl rfl)
theorem dX6_scriptHere_13 : decode cX6_scriptHere 13 = .ok (.ldc_w 263, 3) := dk_19 1 7 (dk_at dksX6_scriptHere_0 13 rfl rfl)
theorem dX6_scriptHere_16 : decode cX6_scriptHere 16 = .ok (.invokevirtual 207, 3) := dk_182 0 207 (dk_at dksX6_scriptHere_0 16 rfl rfl)
theorem dX6_scriptHere_19 : decode cX6_scriptHere 19 = .ok (.ifCond .eq 5, 3) := dk_153 0 5 (dk_at dksX6_scriptHere_0 19 rfl rfl)
theorem dX6_scriptHere_22 : decode cX6_scriptHere 22 = .ok (.iconst 2, 1) := dk_5 (dk_at dksX6_scriptHere_0 22 rfl rfl)
theorem dX6_scriptHere_23 : decode cX6_scriptHere 23 = .ok (.ireturn, 1) := dk_172 (dk_at dksX6_scriptHere_0 23 rfl rfl)
theorem dX6_scriptHere_24 : decode cX6_scriptHere 24 = .ok (.aload_n 0, 1) := dk_42 (dk_at dksX6_scriptHere_1 0 rfl rfl)
theorem dX6_scriptHere_25 : decode cX6_scriptHere 25 = .ok (.ldc_w 265, 3) := dk_19 1 9 (dk_at dksX6_scriptHere_1 1 rfl rfl)
theorem dX6_scriptHere_28 : decode cX6_scriptHere 28 = .ok (.invokevirtual 207, 3) := dk_182 0 207 (dk_at dksX6_scriptHere_1 4 rfl rfl)
theorem dX6_scriptHere_31 : decode cX6_scriptHere 31 = .ok (.ifCond .eq 5, 3) := dk_153 0 5 (dk_at dksX6_scriptHere_1 7 rfl rfl)
theorem dX6_scriptHere_34 : decode cX6_scriptHere 34 = .ok (.iconst 3, 1) := dk_6 (dk_at dksX6_scriptHere_1 10 rfl rfl)
theorem dX6_scriptHere_35 : decode cX6_scriptHere 35 = .ok (.ireturn, 1) := dk_172 (dk_at dksX6_scriptHere_1 11 rfl rfl)
theorem dX6_scriptHere_36 : decode cX6_scriptHere 36 = .ok (.aload_n 0, 1) := dk_42 (dk_at dksX6_scriptHere_1 12 rfl rfl)
theorem dX6_scriptHere_37 : decode cX6_scriptHere 37 = .ok (.ldc_w 267, 3) := dk_19 1 11 (dk_at dksX6_scriptHere_1 13 rfl rfl)
theorem dX6_scriptHere_40 : decode cX6_scriptHere 40 = .ok (.invokevirtual 207, 3) := dk_182 0 207 (dk_at dksX6_scriptHere_1 16 rfl rfl)
theorem dX6_scriptHere_43 : decode cX6_scriptHere 43 = .ok (.ifCond .eq 5, 3) := dk_153 0 5 (dk_at dksX6_scriptHere_1 19 rfl rfl)
theorem dX6_scriptHere_46 : decode cX6_scriptHere 46 = .ok (.iconst 4, 1) := dk_7 (dk_at dksX6_scriptHere_1 22 rfl rfl)
theorem dX6_scriptHere_47 : decode cX6_scriptHere 47 = .ok (.ireturn, 1) := dk_172 (dk_at dksX6_scriptHere_1 23 rfl rfl)
theorem dX6_scriptHere_48 : decode cX6_scriptHere 48 = .ok (.aload_n 0, 1) := dk_42 (dk_at dksX6_scriptHere_2 0 rfl rfl)
theorem dX6_scriptHere_49 : decode cX6_scriptHere 49 = .ok (.ldc_w 269, 3) := dk_19 1 13 (dk_at dksX6_scriptHere_2 1 rfl rfl)
theorem dX6_scriptHere_52 : decode cX6_scriptHere 52 = .ok (.invokevirtual 207, 3) := dk_182 0 207 (dk_at dksX6_scriptHere_2 4 rfl rfl)
theorem dX6_scriptHere_55 : decode cX6_scriptHere 55 = .ok (.ifCond .eq 5, 3) := dk_153 0 5 (dk_at dksX6_scriptHere_2 7 rfl rfl)
theorem dX6_scriptHere_58 : decode cX6_scriptHere 58 = .ok (.iconst 5, 1) := dk_8 (dk_at dksX6_scriptHere_2 10 rfl rfl)
theorem dX6_scriptHere_59 : decode cX6_scriptHere 59 = .ok (.ireturn, 1) := dk_172 (dk_at dksX6_scriptHere_2 11 rfl rfl)
theorem dX6_scriptHere_60 : decode cX6_scriptHere 60 = .ok (.aload_n 0, 1) := dk_42 (dk_at dksX6_scriptHere_2 12 rfl rfl)
theorem dX6_scriptHere_61 : decode cX6_scriptHere 61 = .ok (.ldc_w 271, 3) := dk_19 1 15 (dk_at dksX6_scriptHere_2 13 rfl rfl)
theorem dX6_scriptHere_64 : decode cX6_scriptHere 64 = .ok (.invokevirtual 207, 3) := dk_182 0 207 (dk_at dksX6_scriptHere_2 16 rfl rfl)
theorem dX6_scriptHere_67 : decode cX6_scriptHere 67 = .ok (.ifCond .eq 6, 3) := dk_153 0 6 (dk_at dksX6_scriptHere_2 19 rfl rfl)
theorem dX6_scriptHere_70 : decode cX6_scriptHere 70 = .ok (.bipush 6, 2) := dk_16 6 (dk_at dksX6_scriptHere_2 22 rfl rfl)
theorem dX6_scriptHere_72 : decode cX6_scriptHere 72 = .ok (.ireturn, 1) := dk_172 (dk_at dksX6_scriptHere_3 0 rfl rfl)
theorem dX6_scriptHere_73 : decode cX6_scriptHere 73 = .ok (.aload_n 0, 1) := dk_42 (dk_at dksX6_scriptHere_3 1 rfl rfl)
theorem dX6_scriptHere_74 : decode cX6_scriptHere 74 = .ok (.ldc_w 273, 3) := dk_19 1 17 (dk_at dksX6_scriptHere_3 2 rfl rfl)
theorem dX6_scriptHere_77 : decode cX6_scriptHere 77 = .ok (.invokevirtual 207, 3) := dk_182 0 207 (dk_at dksX6_scriptHere_3 5 rfl rfl)
theorem dX6_scriptHere_80 : decode cX6_scriptHere 80 = .ok (.ifCond .eq 6, 3) := dk_153 0 6 (dk_at dksX6_scriptHere_3 8 rfl rfl)
theorem dX6_scriptHere_83 : decode cX6_scriptHere 83 = .ok (.bipush 7, 2) := dk_16 7 (dk_at dksX6_scriptHere_3 11 rfl rfl)
theorem dX6_scriptHere_85 : decode cX6_scriptHere 85 = .ok (.ireturn, 1) := dk_172 (dk_at dksX6_scriptHere_3 13 rfl rfl)
theorem dX6_scriptHere_86 : decode cX6_scriptHere 86 = .ok (.aload_n 0, 1) := dk_42 (dk_at dksX6_scriptHere_3 14 rfl rfl)
theorem dX6_scriptHere_87 : decode cX6_scriptHere 87 = .ok (.ldc 231, 2) := dk_18 231 (dk_at dksX6_scriptHere_3 15 rfl rfl)
theorem dX6_scriptHere_89 : decode cX6_scriptHere 89 = .ok (.invokevirtual 207, 3) := dk_182 0 207 (dk_at dksX6_scriptHere_3 17 rfl rfl)
theorem dX6_scriptHere_92 : decode cX6_scriptHere 92 = .ok (.ifCond .eq 8, 3) := dk_153 0 8 (dk_at dksX6_scriptHere_3 20 rfl rfl)
theorem dX6_scriptHere_95 : decode cX6_scriptHere 95 = .ok (.bipush 8, 2) := dk_16 8 (dk_at dksX6_scriptHere_4 0 rfl rfl)
theorem dX6_scriptHere_97 : decode cX6_scriptHere 97 = .ok (.goto 4, 3) := dk_167 0 4 (dk_at dksX6_scriptHere_4 2 rfl rfl)
theorem dX6_scriptHere_100 : decode cX6_scriptHere 100 = .ok (.iconst 0, 1) := dk_3 (dk_at dksX6_scriptHere_4 5 rfl rfl)
theorem dX6_scriptHere_101 : decode cX6_scriptHere 101 = .ok (.ireturn, 1) := dk_172 (dk_at dksX6_scriptHere_4 6 rfl rfl)
abbrev cX6_takesRest : ByteArray := prog_19_method_64_code
def yX6_takesRest : MethodName := ⟨RX6, "takesRest", "(I)Z"⟩
def dkwX6_takesRest_6 : List UInt8 := [3, 42, 180, 0, 7, 6, 46, 4, 100, 182, 0, 211, 172]
abbrev dktX6_takesRest_6 : List UInt8 := dkwX6_takesRest_6 ++ []
def dkwX6_takesRest_5 : List UInt8 := [6, 182, 0, 211, 153, 0, 7, 4, 167, 0, 4, 3, 172, 42, 3, 4, 16, 9, 182, 0, 211, 172, 42, 3]
abbrev dktX6_takesRest_5 : List UInt8 := dkwX6_takesRest_5 ++ dktX6_takesRest_6
def dkwX6_takesRest_4 : List UInt8 := [182, 0, 211, 172, 42, 3, 3, 42, 180, 0, 7, 6, 46, 4, 100, 182, 0, 211, 153, 0, 17, 42, 4, 3]
abbrev dktX6_takesRest_4 : List UInt8 := dkwX6_takesRest_4 ++ dktX6_takesRest_5
def dkwX6_takesRest_3 : List UInt8 := [153, 0, 7, 4, 167, 0, 4, 3, 172, 42, 3, 4, 17, 1, 244, 182, 0, 211, 172, 42, 3, 3, 16, 39]
abbrev dktX6_takesRest_3 : List UInt8 := dkwX6_takesRest_3 ++ dktX6_takesRest_4
def dkwX6_takesRest_2 : List UInt8 := [42, 3, 3, 42, 180, 0, 7, 6, 46, 4, 100, 182, 0, 211, 153, 0, 17, 42, 4, 3, 8, 182, 0, 211]
abbrev dktX6_takesRest_2 : List UInt8 := dkwX6_takesRest_2 ++ dktX6_takesRest_3
def dkwX6_takesRest_1 : List UInt8 := [170, 0, 0, 0, 0, 0, 141, 0, 0, 0, 1, 0, 0, 0, 8, 0, 0, 0, 47, 0, 0, 0, 80, 0, 0, 0, 90, 0, 0, 0, 141, 0, 0, 0, 141, 0, 0, 0, 141, 0, 0, 0, 99, 0, 0, 0, 132]
abbrev dktX6_takesRest_1 : List UInt8 := dkwX6_takesRest_1 ++ dktX6_takesRest_2
def dkwX6_takesRest_0 : List UInt8 := [42, 182, 0, 199, 27]
abbrev dktX6_takesRest_0 : List UInt8 := dkwX6_takesRest_0 ++ dktX6_takesRest_1
theorem dksX6_takesRest_0 : cX6_takesRest.data.toList.drop 0 = dktX6_takesRest_0 := by decide +kernel
theorem dksX6_takesRest_1 : cX6_takesRest.data.toList.drop 5 = dktX6_takesRest_1 := dk_seg dksX6_takesRest_0 5 rfl rfl
theorem dksX6_takesRest_2 : cX6_takesRest.data.toList.drop 52 = dktX6_takesRest_2 := dk_seg dksX6_takesRest_1 47 rfl rfl
theorem dksX6_takesRest_3 : cX6_takesRest.data.toList.drop 76 = dktX6_takesRest_3 := dk_seg dksX6_takesRest_2 24 rfl rfl
theorem dksX6_takesRest_4 : cX6_takesRest.data.toList.drop 100 = dktX6_takesRest_4 := dk_seg dksX6_takesRest_3 24 rfl rfl
theorem dksX6_takesRest_5 : cX6_takesRest.data.toList.drop 124 = dktX6_takesRest_5 := dk_seg dksX6_takesRest_4 24 rfl rfl
theorem dksX6_takesRest_6 : cX6_takesRest.data.toList.drop 148 = dktX6_takesRest_6 := dk_seg dksX6_takesRest_5 24 rfl rfl
theorem dX6_takesRest_0 : decode cX6_takesRest 0 = .ok (.aload_n 0, 1) := dk_42 (dk_at dksX6_takesRest_0 0 rfl rfl)
theorem dX6_takesRest_1 : decode cX6_takesRest 1 = .ok (.invokevirtual 199, 3) := dk_182 0 199 (dk_at dksX6_takesRest_0 1 rfl rfl)
theorem dX6_takesRest_4 : decode cX6_takesRest 4 = .ok (.iload_n 1, 1) := dk_27 (dk_at dksX6_takesRest_0 4 rfl rfl)
theorem dX6_takesRest_5 : decode cX6_takesRest 5 = .ok (.tableswitch 141 1 8 #[47, 80, 90, 141, 141, 141, 99, 132], 47) := by decide +kernel
theorem dX6_takesRest_52 : decode cX6_takesRest 52 = .ok (.aload_n 0, 1) := dk_42 (dk_at dksX6_takesRest_2 0 rfl rfl)
theorem dX6_takesRest_53 : decode cX6_takesRest 53 = .ok (.iconst 0, 1) := dk_3 (dk_at dksX6_takesRest_2 1 rfl rfl)
theorem dX6_takesRest_54 : decode cX6_takesRest 54 = .ok (.iconst 0, 1) := dk_3 (dk_at dksX6_takesRest_2 2 rfl rfl)
theorem dX6_takesRest_55 : decode cX6_takesRest 55 = .ok (.aload_n 0, 1) := dk_42 (dk_at dksX6_takesRest_2 3 rfl rfl)
theorem dX6_takesRest_56 : decode cX6_takesRest 56 = .ok (.getfield 7, 3) := dk_180 0 7 (dk_at dksX6_takesRest_2 4 rfl rfl)
theorem dX6_takesRest_59 : decode cX6_takesRest 59 = .ok (.iconst 3, 1) := dk_6 (dk_at dksX6_takesRest_2 7 rfl rfl)
theorem dX6_takesRest_60 : decode cX6_takesRest 60 = .ok (.iaload, 1) := dk_46 (dk_at dksX6_takesRest_2 8 rfl rfl)
theorem dX6_takesRest_61 : decode cX6_takesRest 61 = .ok (.iconst 1, 1) := dk_4 (dk_at dksX6_takesRest_2 9 rfl rfl)
theorem dX6_takesRest_62 : decode cX6_takesRest 62 = .ok (.isub, 1) := dk_100 (dk_at dksX6_takesRest_2 10 rfl rfl)
theorem dX6_takesRest_63 : decode cX6_takesRest 63 = .ok (.invokevirtual 211, 3) := dk_182 0 211 (dk_at dksX6_takesRest_2 11 rfl rfl)
theorem dX6_takesRest_66 : decode cX6_takesRest 66 = .ok (.ifCond .eq 17, 3) := dk_153 0 17 (dk_at dksX6_takesRest_2 14 rfl rfl)
theorem dX6_takesRest_69 : decode cX6_takesRest 69 = .ok (.aload_n 0, 1) := dk_42 (dk_at dksX6_takesRest_2 17 rfl rfl)
theorem dX6_takesRest_70 : decode cX6_takesRest 70 = .ok (.iconst 1, 1) := dk_4 (dk_at dksX6_takesRest_2 18 rfl rfl)
theorem dX6_takesRest_71 : decode cX6_takesRest 71 = .ok (.iconst 0, 1) := dk_3 (dk_at dksX6_takesRest_2 19 rfl rfl)
theorem dX6_takesRest_72 : decode cX6_takesRest 72 = .ok (.iconst 5, 1) := dk_8 (dk_at dksX6_takesRest_2 20 rfl rfl)
theorem dX6_takesRest_73 : decode cX6_takesRest 73 = .ok (.invokevirtual 211, 3) := dk_182 0 211 (dk_at dksX6_takesRest_2 21 rfl rfl)
theorem dX6_takesRest_76 : decode cX6_takesRest 76 = .ok (.ifCond .eq 7, 3) := dk_153 0 7 (dk_at dksX6_takesRest_3 0 rfl rfl)
theorem dX6_takesRest_79 : decode cX6_takesRest 79 = .ok (.iconst 1, 1) := dk_4 (dk_at dksX6_takesRest_3 3 rfl rfl)
theorem dX6_takesRest_80 : decode cX6_takesRest 80 = .ok (.goto 4, 3) := dk_167 0 4 (dk_at dksX6_takesRest_3 4 rfl rfl)
theorem dX6_takesRest_83 : decode cX6_takesRest 83 = .ok (.iconst 0, 1) := dk_3 (dk_at dksX6_takesRest_3 7 rfl rfl)
theorem dX6_takesRest_84 : decode cX6_takesRest 84 = .ok (.ireturn, 1) := dk_172 (dk_at dksX6_takesRest_3 8 rfl rfl)
theorem dX6_takesRest_85 : decode cX6_takesRest 85 = .ok (.aload_n 0, 1) := dk_42 (dk_at dksX6_takesRest_3 9 rfl rfl)
theorem dX6_takesRest_86 : decode cX6_takesRest 86 = .ok (.iconst 0, 1) := dk_3 (dk_at dksX6_takesRest_3 10 rfl rfl)
theorem dX6_takesRest_87 : decode cX6_takesRest 87 = .ok (.iconst 1, 1) := dk_4 (dk_at dksX6_takesRest_3 11 rfl rfl)
theorem dX6_takesRest_88 : decode cX6_takesRest 88 = .ok (.sipush 500, 3) := dk_17 1 244 (dk_at dksX6_takesRest_3 12 rfl rfl)
theorem dX6_takesRest_91 : decode cX6_takesRest 91 = .ok (.invokevirtual 211, 3) := dk_182 0 211 (dk_at dksX6_takesRest_3 15 rfl rfl)
theorem dX6_takesRest_94 : decode cX6_takesRest 94 = .ok (.ireturn, 1) := dk_172 (dk_at dksX6_takesRest_3 18 rfl rfl)
theorem dX6_takesRest_95 : decode cX6_takesRest 95 = .ok (.aload_n 0, 1) := dk_42 (dk_at dksX6_takesRest_3 19 rfl rfl)
theorem dX6_takesRest_96 : decode cX6_takesRest 96 = .ok (.iconst 0, 1) := dk_3 (dk_at dksX6_takesRest_3 20 rfl rfl)
theorem dX6_takesRest_97 : decode cX6_takesRest 97 = .ok (.iconst 0, 1) := dk_3 (dk_at dksX6_takesRest_3 21 rfl rfl)
theorem dX6_takesRest_98 : decode cX6_takesRest 98 = .ok (.bipush 39, 2) := dk_16 39 (dk_at dksX6_takesRest_3 22 rfl rfl)
theorem dX6_takesRest_100 : decode cX6_takesRest 100 = .ok (.invokevirtual 211, 3) := dk_182 0 211 (dk_at dksX6_takesRest_4 0 rfl rfl)
theorem dX6_takesRest_103 : decode cX6_takesRest 103 = .ok (.ireturn, 1) := dk_172 (dk_at dksX6_takesRest_4 3 rfl rfl)
theorem dX6_takesRest_104 : decode cX6_takesRest 104 = .ok (.aload_n 0, 1) := dk_42 (dk_at dksX6_takesRest_4 4 rfl rfl)
theorem dX6_takesRest_105 : decode cX6_takesRest 105 = .ok (.iconst 0, 1) := dk_3 (dk_at dksX6_takesRest_4 5 rfl rfl)
theorem dX6_takesRest_106 : decode cX6_takesRest 106 = .ok (.iconst 0, 1) := dk_3 (dk_at dksX6_takesRest_4 6 rfl rfl)
theorem dX6_takesRest_107 : decode cX6_takesRest 107 = .ok (.aload_n 0, 1) := dk_42 (dk_at dksX6_takesRest_4 7 rfl rfl)
theorem dX6_takesRest_108 : decode cX6_takesRest 108 = .ok (.getfield 7, 3) := dk_180 0 7 (dk_at dksX6_takesRest_4 8 rfl rfl)
theorem dX6_takesRest_111 : decode cX6_takesRest 111 = .ok (.iconst 3, 1) := dk_6 (dk_at dksX6_takesRest_4 11 rfl rfl)
theorem dX6_takesRest_112 : decode cX6_takesRest 112 = .ok (.iaload, 1) := dk_46 (dk_at dksX6_takesRest_4 12 rfl rfl)
theorem dX6_takesRest_113 : decode cX6_takesRest 113 = .ok (.iconst 1, 1) := dk_4 (dk_at dksX6_takesRest_4 13 rfl rfl)
theorem dX6_takesRest_114 : decode cX6_takesRest 114 = .ok (.isub, 1) := dk_100 (dk_at dksX6_takesRest_4 14 rfl rfl)
theorem dX6_takesRest_115 : decode cX6_takesRest 115 = .ok (.invokevirtual 211, 3) := dk_182 0 211 (dk_at dksX6_takesRest_4 15 rfl rfl)
theorem dX6_takesRest_118 : decode cX6_takesRest 118 = .ok (.ifCond .eq 17, 3) := dk_153 0 17 (dk_at dksX6_takesRest_4 18 rfl rfl)
theorem dX6_takesRest_121 : decode cX6_takesRest 121 = .ok (.aload_n 0, 1) := dk_42 (dk_at dksX6_takesRest_4 21 rfl rfl)
theorem dX6_takesRest_122 : decode cX6_takesRest 122 = .ok (.iconst 1, 1) := dk_4 (dk_at dksX6_takesRest_4 22 rfl rfl)
theorem dX6_takesRest_123 : decode cX6_takesRest 123 = .ok (.iconst 0, 1) := dk_3 (dk_at dksX6_takesRest_4 23 rfl rfl)
theorem dX6_takesRest_124 : decode cX6_takesRest 124 = .ok (.iconst 3, 1) := dk_6 (dk_at dksX6_takesRest_5 0 rfl rfl)
theorem dX6_takesRest_125 : decode cX6_takesRest 125 = .ok (.invokevirtual 211, 3) := dk_182 0 211 (dk_at dksX6_takesRest_5 1 rfl rfl)
theorem dX6_takesRest_128 : decode cX6_takesRest 128 = .ok (.ifCond .eq 7, 3) := dk_153 0 7 (dk_at dksX6_takesRest_5 4 rfl rfl)
theorem dX6_takesRest_131 : decode cX6_takesRest 131 = .ok (.iconst 1, 1) := dk_4 (dk_at dksX6_takesRest_5 7 rfl rfl)
theorem dX6_takesRest_132 : decode cX6_takesRest 132 = .ok (.goto 4, 3) := dk_167 0 4 (dk_at dksX6_takesRest_5 8 rfl rfl)
theorem dX6_takesRest_135 : decode cX6_takesRest 135 = .ok (.iconst 0, 1) := dk_3 (dk_at dksX6_takesRest_5 11 rfl rfl)
theorem dX6_takesRest_136 : decode cX6_takesRest 136 = .ok (.ireturn, 1) := dk_172 (dk_at dksX6_takesRest_5 12 rfl rfl)
theorem dX6_takesRest_137 : decode cX6_takesRest 137 = .ok (.aload_n 0, 1) := dk_42 (dk_at dksX6_takesRest_5 13 rfl rfl)
theorem dX6_takesRest_138 : decode cX6_takesRest 138 = .ok (.iconst 0, 1) := dk_3 (dk_at dksX6_takesRest_5 14 rfl rfl)
theorem dX6_takesRest_139 : decode cX6_takesRest 139 = .ok (.iconst 1, 1) := dk_4 (dk_at dksX6_takesRest_5 15 rfl rfl)
theorem dX6_takesRest_140 : decode cX6_takesRest 140 = .ok (.bipush 9, 2) := dk_16 9 (dk_at dksX6_takesRest_5 16 rfl rfl)
theorem dX6_takesRest_142 : decode cX6_takesRest 142 = .ok (.invokevirtual 211, 3) := dk_182 0 211 (dk_at dksX6_takesRest_5 18 rfl rfl)
theorem dX6_takesRest_145 : decode cX6_takesRest 145 = .ok (.ireturn, 1) := dk_172 (dk_at dksX6_takesRest_5 21 rfl rfl)
theorem dX6_takesRest_146 : decode cX6_takesRest 146 = .ok (.aload_n 0, 1) := dk_42 (dk_at dksX6_takesRest_5 22 rfl rfl)
theorem dX6_takesRest_147 : decode cX6_takesRest 147 = .ok (.iconst 0, 1) := dk_3 (dk_at dksX6_takesRest_5 23 rfl rfl)
theorem dX6_takesRest_148 : decode cX6_takesRest 148 = .ok (.iconst 0, 1) := dk_3 (dk_at dksX6_takesRest_6 0 rfl rfl)
theorem dX6_takesRest_149 : decode cX6_takesRest 149 = .ok (.aload_n 0, 1) := dk_42 (dk_at dksX6_takesRest_6 1 rfl rfl)
theorem dX6_takesRest_150 : decode cX6_takesRest 150 = .ok (.getfield 7, 3) := dk_180 0 7 (dk_at dksX6_takesRest_6 2 rfl rfl)
theorem dX6_takesRest_153 : decode cX6_takesRest 153 = .ok (.iconst 3, 1) := dk_6 (dk_at dksX6_takesRest_6 5 rfl rfl)
theorem dX6_takesRest_154 : decode cX6_takesRest 154 = .ok (.iaload, 1) := dk_46 (dk_at dksX6_takesRest_6 6 rfl rfl)
theorem dX6_takesRest_155 : decode cX6_takesRest 155 = .ok (.iconst 1, 1) := dk_4 (dk_at dksX6_takesRest_6 7 rfl rfl)
theorem dX6_takesRest_156 : decode cX6_takesRest 156 = .ok (.isub, 1) := dk_100 (dk_at dksX6_takesRest_6 8 rfl rfl)
theorem dX6_takesRest_157 : decode cX6_takesRest 157 = .ok (.invokevirtual 211, 3) := dk_182 0 211 (dk_at dksX6_takesRest_6 9 rfl rfl)
theorem dX6_takesRest_160 : decode cX6_takesRest 160 = .ok (.ireturn, 1) := dk_172 (dk_at dksX6_takesRest_6 12 rfl rfl)
abbrev cX6_remembers : ByteArray := prog_19_method_39_code
def yX6_remembers : MethodName := ⟨RX6, "remembers", "()V"⟩
def dkwX6_remembers_3 : List UInt8 := [89, 180, 0, 139, 4, 96, 181, 0, 139, 177]
abbrev dktX6_remembers_3 : List UInt8 := dkwX6_remembers_3 ++ []
def dkwX6_remembers_2 : List UInt8 := [181, 0, 139, 42, 180, 0, 7, 3, 42, 180, 0, 22, 17, 2, 13, 42, 180, 0, 139, 104, 184, 0, 142, 42]
abbrev dktX6_remembers_2 : List UInt8 := dkwX6_remembers_2 ++ dktX6_remembers_3
def dkwX6_remembers_1 : List UInt8 := [180, 0, 22, 27, 17, 2, 13, 96, 46, 79, 132, 1, 1, 167, 255, 230, 42, 89, 180, 0, 139, 4, 100]
abbrev dktX6_remembers_1 : List UInt8 := dkwX6_remembers_1 ++ dktX6_remembers_2
def dkwX6_remembers_0 : List UInt8 := [42, 180, 0, 139, 16, 8, 160, 0, 44, 3, 60, 27, 17, 14, 91, 162, 0, 25, 42, 180, 0, 22, 27, 42]
abbrev dktX6_remembers_0 : List UInt8 := dkwX6_remembers_0 ++ dktX6_remembers_1
theorem dksX6_remembers_0 : cX6_remembers.data.toList.drop 0 = dktX6_remembers_0 := by decide +kernel
theorem dksX6_remembers_1 : cX6_remembers.data.toList.drop 24 = dktX6_remembers_1 := dk_seg dksX6_remembers_0 24 rfl rfl
theorem dksX6_remembers_2 : cX6_remembers.data.toList.drop 47 = dktX6_remembers_2 := dk_seg dksX6_remembers_1 23 rfl rfl
theorem dksX6_remembers_3 : cX6_remembers.data.toList.drop 71 = dktX6_remembers_3 := dk_seg dksX6_remembers_2 24 rfl rfl
theorem dX6_remembers_0 : decode cX6_remembers 0 = .ok (.aload_n 0, 1) := dk_42 (dk_at dksX6_remembers_0 0 rfl rfl)
theorem dX6_remembers_1 : decode cX6_remembers 1 = .ok (.getfield 139, 3) := dk_180 0 139 (dk_at dksX6_remembers_0 1 rfl rfl)
theorem dX6_remembers_4 : decode cX6_remembers 4 = .ok (.bipush 8, 2) := dk_16 8 (dk_at dksX6_remembers_0 4 rfl rfl)
theorem dX6_remembers_6 : decode cX6_remembers 6 = .ok (.if_icmp .ne 44, 3) := dk_160 0 44 (dk_at dksX6_remembers_0 6 rfl rfl)
theorem dX6_remembers_9 : decode cX6_remembers 9 = .ok (.iconst 0, 1) := dk_3 (dk_at dksX6_remembers_0 9 rfl rfl)
theorem dX6_remembers_10 : decode cX6_remembers 10 = .ok (.istore_n 1, 1) := dk_60 (dk_at dksX6_remembers_0 10 rfl rfl)
theorem dX6_remembers_11 : decode cX6_remembers 11 = .ok (.iload_n 1, 1) := dk_27 (dk_at dksX6_remembers_0 11 rfl rfl)
theorem dX6_remembers_12 : decode cX6_remembers 12 = .ok (.sipush 3675, 3) := dk_17 14 91 (dk_at dksX6_remembers_0 12 rfl rfl)
theorem dX6_remembers_15 : decode cX6_remembers 15 = .ok (.if_icmp .ge 25, 3) := dk_162 0 25 (dk_at dksX6_remembers_0 15 rfl rfl)
theorem dX6_remembers_18 : decode cX6_remembers 18 = .ok (.aload_n 0, 1) := dk_42 (dk_at dksX6_remembers_0 18 rfl rfl)
theorem dX6_remembers_19 : decode cX6_remembers 19 = .ok (.getfield 22, 3) := dk_180 0 22 (dk_at dksX6_remembers_0 19 rfl rfl)
theorem dX6_remembers_22 : decode cX6_remembers 22 = .ok (.iload_n 1, 1) := dk_27 (dk_at dksX6_remembers_0 22 rfl rfl)
theorem dX6_remembers_23 : decode cX6_remembers 23 = .ok (.aload_n 0, 1) := dk_42 (dk_at dksX6_remembers_0 23 rfl rfl)
theorem dX6_remembers_24 : decode cX6_remembers 24 = .ok (.getfield 22, 3) := dk_180 0 22 (dk_at dksX6_remembers_1 0 rfl rfl)
theorem dX6_remembers_27 : decode cX6_remembers 27 = .ok (.iload_n 1, 1) := dk_27 (dk_at dksX6_remembers_1 3 rfl rfl)
theorem dX6_remembers_28 : decode cX6_remembers 28 = .ok (.sipush 525, 3) := dk_17 2 13 (dk_at dksX6_remembers_1 4 rfl rfl)
theorem dX6_remembers_31 : decode cX6_remembers 31 = .ok (.iadd, 1) := dk_96 (dk_at dksX6_remembers_1 7 rfl rfl)
theorem dX6_remembers_32 : decode cX6_remembers 32 = .ok (.iaload, 1) := dk_46 (dk_at dksX6_remembers_1 8 rfl rfl)
theorem dX6_remembers_33 : decode cX6_remembers 33 = .ok (.iastore, 1) := dk_79 (dk_at dksX6_remembers_1 9 rfl rfl)
theorem dX6_remembers_34 : decode cX6_remembers 34 = .ok (.iinc 1 1, 3) := dk_132 1 1 (dk_at dksX6_remembers_1 10 rfl rfl)
theorem dX6_remembers_37 : decode cX6_remembers 37 = .ok (.goto (-26), 3) := dk_167 255 230 (dk_at dksX6_remembers_1 13 rfl rfl)
theorem dX6_remembers_40 : decode cX6_remembers 40 = .ok (.aload_n 0, 1) := dk_42 (dk_at dksX6_remembers_1 16 rfl rfl)
theorem dX6_remembers_41 : decode cX6_remembers 41 = .ok (.dup, 1) := dk_89 (dk_at dksX6_remembers_1 17 rfl rfl)
theorem dX6_remembers_42 : decode cX6_remembers 42 = .ok (.getfield 139, 3) := dk_180 0 139 (dk_at dksX6_remembers_1 18 rfl rfl)
theorem dX6_remembers_45 : decode cX6_remembers 45 = .ok (.iconst 1, 1) := dk_4 (dk_at dksX6_remembers_1 21 rfl rfl)
theorem dX6_remembers_46 : decode cX6_remembers 46 = .ok (.isub, 1) := dk_100 (dk_at dksX6_remembers_1 22 rfl rfl)
theorem dX6_remembers_47 : decode cX6_remembers 47 = .ok (.putfield 139, 3) := dk_181 0 139 (dk_at dksX6_remembers_2 0 rfl rfl)
theorem dX6_remembers_50 : decode cX6_remembers 50 = .ok (.aload_n 0, 1) := dk_42 (dk_at dksX6_remembers_2 3 rfl rfl)
theorem dX6_remembers_51 : decode cX6_remembers 51 = .ok (.getfield 7, 3) := dk_180 0 7 (dk_at dksX6_remembers_2 4 rfl rfl)
theorem dX6_remembers_54 : decode cX6_remembers 54 = .ok (.iconst 0, 1) := dk_3 (dk_at dksX6_remembers_2 7 rfl rfl)
theorem dX6_remembers_55 : decode cX6_remembers 55 = .ok (.aload_n 0, 1) := dk_42 (dk_at dksX6_remembers_2 8 rfl rfl)
theorem dX6_remembers_56 : decode cX6_remembers 56 = .ok (.getfield 22, 3) := dk_180 0 22 (dk_at dksX6_remembers_2 9 rfl rfl)
theorem dX6_remembers_59 : decode cX6_remembers 59 = .ok (.sipush 525, 3) := dk_17 2 13 (dk_at dksX6_remembers_2 12 rfl rfl)
theorem dX6_remembers_62 : decode cX6_remembers 62 = .ok (.aload_n 0, 1) := dk_42 (dk_at dksX6_remembers_2 15 rfl rfl)
theorem dX6_remembers_63 : decode cX6_remembers 63 = .ok (.getfield 139, 3) := dk_180 0 139 (dk_at dksX6_remembers_2 16 rfl rfl)
theorem dX6_remembers_66 : decode cX6_remembers 66 = .ok (.imul, 1) := dk_104 (dk_at dksX6_remembers_2 19 rfl rfl)
theorem dX6_remembers_67 : decode cX6_remembers 67 = .ok (.invokestatic 142, 3) := dk_184 0 142 (dk_at dksX6_remembers_2 20 rfl rfl)
theorem dX6_remembers_70 : decode cX6_remembers 70 = .ok (.aload_n 0, 1) := dk_42 (dk_at dksX6_remembers_2 23 rfl rfl)
theorem dX6_remembers_71 : decode cX6_remembers 71 = .ok (.dup, 1) := dk_89 (dk_at dksX6_remembers_3 0 rfl rfl)
theorem dX6_remembers_72 : decode cX6_remembers 72 = .ok (.getfield 139, 3) := dk_180 0 139 (dk_at dksX6_remembers_3 1 rfl rfl)
theorem dX6_remembers_75 : decode cX6_remembers 75 = .ok (.iconst 1, 1) := dk_4 (dk_at dksX6_remembers_3 4 rfl rfl)
theorem dX6_remembers_76 : decode cX6_remembers 76 = .ok (.iadd, 1) := dk_96 (dk_at dksX6_remembers_3 5 rfl rfl)
theorem dX6_remembers_77 : decode cX6_remembers 77 = .ok (.putfield 139, 3) := dk_181 0 139 (dk_at dksX6_remembers_3 6 rfl rfl)
theorem dX6_remembers_80 : decode cX6_remembers 80 = .ok (.return_, 1) := dk_177 (dk_at dksX6_remembers_3 9 rfl rfl)
abbrev cX6_does : ByteArray := prog_19_method_66_code
def yX6_does : MethodName := ⟨RX6, "does", "(I)Z"⟩
def dkwX6_does_8 : List UInt8 := [167, 0, 4, 3, 172, 42, 2, 28, 182, 1, 46, 155, 0, 7, 4, 167, 0, 4, 3, 172]
abbrev dktX6_does_8 : List UInt8 := dkwX6_does_8 ++ []
def dkwX6_does_7 : List UInt8 := [182, 1, 43, 155, 0, 7, 4, 167, 0, 4, 3, 172, 42, 28, 29, 182, 1, 46, 155, 0, 7, 4]
abbrev dktX6_does_7 : List UInt8 := dkwX6_does_7 ++ dktX6_does_8
def dkwX6_does_6 : List UInt8 := [167, 0, 4, 3, 172, 42, 28, 3, 182, 1, 43, 155, 0, 7, 4, 167, 0, 4, 3, 172, 42, 28, 4]
abbrev dktX6_does_6 : List UInt8 := dkwX6_does_6 ++ dktX6_does_7
def dkwX6_does_5 : List UInt8 := [28, 182, 1, 37, 155, 0, 7, 4, 167, 0, 4, 3, 172, 42, 28, 182, 1, 40, 155, 0, 7, 4]
abbrev dktX6_does_5 : List UInt8 := dkwX6_does_5 ++ dktX6_does_6
def dkwX6_does_4 : List UInt8 := [167, 0, 4, 3, 172, 28, 42, 180, 0, 7, 7, 46, 162, 0, 23, 42, 28, 182, 1, 34, 154, 0, 15, 42]
abbrev dktX6_does_4 : List UInt8 := dkwX6_does_4 ++ dktX6_does_5
def dkwX6_does_3 : List UInt8 := [180, 0, 7, 8, 46, 28, 96, 17, 39, 15, 163, 0, 15, 42, 28, 182, 1, 31, 155, 0, 7, 4]
abbrev dktX6_does_3 : List UInt8 := dkwX6_does_3 ++ dktX6_does_4
def dkwX6_does_2 : List UInt8 := [42, 182, 1, 25, 154, 0, 16, 42, 28, 29, 182, 1, 28, 155, 0, 7, 4, 167, 0, 4, 3, 172, 42]
abbrev dktX6_does_2 : List UInt8 := dkwX6_does_2 ++ dktX6_does_3
def dkwX6_does_1 : List UInt8 := [170, 0, 0, 0, 0, 0, 0, 185, 0, 0, 0, 1, 0, 0, 0, 7, 0, 0, 0, 44, 0, 0, 0, 66, 0, 0, 0, 94, 0, 0, 0, 126, 0, 0, 0, 140, 0, 0, 0, 155, 0, 0, 0, 170]
abbrev dktX6_does_1 : List UInt8 := dkwX6_does_1 ++ dktX6_does_2
def dkwX6_does_0 : List UInt8 := [42, 180, 0, 38, 27, 46, 61, 42, 180, 0, 41, 27, 46, 62, 42, 180, 0, 35, 27, 46]
abbrev dktX6_does_0 : List UInt8 := dkwX6_does_0 ++ dktX6_does_1
theorem dksX6_does_0 : cX6_does.data.toList.drop 0 = dktX6_does_0 := by decide +kernel
theorem dksX6_does_1 : cX6_does.data.toList.drop 20 = dktX6_does_1 := dk_seg dksX6_does_0 20 rfl rfl
theorem dksX6_does_2 : cX6_does.data.toList.drop 64 = dktX6_does_2 := dk_seg dksX6_does_1 44 rfl rfl
theorem dksX6_does_3 : cX6_does.data.toList.drop 87 = dktX6_does_3 := dk_seg dksX6_does_2 23 rfl rfl
theorem dksX6_does_4 : cX6_does.data.toList.drop 109 = dktX6_does_4 := dk_seg dksX6_does_3 22 rfl rfl
theorem dksX6_does_5 : cX6_does.data.toList.drop 133 = dktX6_does_5 := dk_seg dksX6_does_4 24 rfl rfl
theorem dksX6_does_6 : cX6_does.data.toList.drop 155 = dktX6_does_6 := dk_seg dksX6_does_5 22 rfl rfl
theorem dksX6_does_7 : cX6_does.data.toList.drop 178 = dktX6_does_7 := dk_seg dksX6_does_6 23 rfl rfl
theorem dksX6_does_8 : cX6_does.data.toList.drop 200 = dktX6_does_8 := dk_seg dksX6_does_7 22 rfl rfl
theorem dX6_does_0 : decode cX6_does 0 = .ok (.aload_n 0, 1) := dk_42 (dk_at dksX6_does_0 0 rfl rfl)
theorem dX6_does_1 : decode cX6_does 1 = .ok (.getfield 38, 3) := dk_180 0 38 (dk_at dksX6_does_0 1 rfl rfl)
theorem dX6_does_4 : decode cX6_does 4 = .ok (.iload_n 1, 1) := dk_27 (dk_at dksX6_does_0 4 rfl rfl)
theorem dX6_does_5 : decode cX6_does 5 = .ok (.iaload, 1) := dk_46 (dk_at dksX6_does_0 5 rfl rfl)
theorem dX6_does_6 : decode cX6_does 6 = .ok (.istore_n 2, 1) := dk_61 (dk_at dksX6_does_0 6 rfl rfl)
theorem dX6_does_7 : decode cX6_does 7 = .ok (.aload_n 0, 1) := dk_42 (dk_at dksX6_does_0 7 rfl rfl)
theorem dX6_does_8 : decode cX6_does 8 = .ok (.getfield 41, 3) := dk_180 0 41 (dk_at dksX6_does_0 8 rfl rfl)
theorem dX6_does_11 : decode cX6_does 11 = .ok (.iload_n 1, 1) := dk_27 (dk_at dksX6_does_0 11 rfl rfl)
theorem dX6_does_12 : decode cX6_does 12 = .ok (.iaload, 1) := dk_46 (dk_at dksX6_does_0 12 rfl rfl)
theorem dX6_does_13 : decode cX6_does 13 = .ok (.istore_n 3, 1) := dk_62 (dk_at dksX6_does_0 13 rfl rfl)
theorem dX6_does_14 : decode cX6_does 14 = .ok (.aload_n 0, 1) := dk_42 (dk_at dksX6_does_0 14 rfl rfl)
theorem dX6_does_15 : decode cX6_does 15 = .ok (.getfield 35, 3) := dk_180 0 35 (dk_at dksX6_does_0 15 rfl rfl)
theorem dX6_does_18 : decode cX6_does 18 = .ok (.iload_n 1, 1) := dk_27 (dk_at dksX6_does_0 18 rfl rfl)
theorem dX6_does_19 : decode cX6_does 19 = .ok (.iaload, 1) := dk_46 (dk_at dksX6_does_0 19 rfl rfl)
theorem dX6_does_20 : decode cX6_does 20 = .ok (.tableswitch 185 1 7 #[44, 66, 94, 126, 140, 155, 170], 44) := by decide +kernel
theorem dX6_does_64 : decode cX6_does 64 = .ok (.aload_n 0, 1) := dk_42 (dk_at dksX6_does_2 0 rfl rfl)
theorem dX6_does_65 : decode cX6_does 65 = .ok (.invokevirtual 281, 3) := dk_182 1 25 (dk_at dksX6_does_2 1 rfl rfl)
theorem dX6_does_68 : decode cX6_does 68 = .ok (.ifCond .ne 16, 3) := dk_154 0 16 (dk_at dksX6_does_2 4 rfl rfl)
theorem dX6_does_71 : decode cX6_does 71 = .ok (.aload_n 0, 1) := dk_42 (dk_at dksX6_does_2 7 rfl rfl)
theorem dX6_does_72 : decode cX6_does 72 = .ok (.iload_n 2, 1) := dk_28 (dk_at dksX6_does_2 8 rfl rfl)
theorem dX6_does_73 : decode cX6_does 73 = .ok (.iload_n 3, 1) := dk_29 (dk_at dksX6_does_2 9 rfl rfl)
theorem dX6_does_74 : decode cX6_does 74 = .ok (.invokevirtual 284, 3) := dk_182 1 28 (dk_at dksX6_does_2 10 rfl rfl)
theorem dX6_does_77 : decode cX6_does 77 = .ok (.ifCond .lt 7, 3) := dk_155 0 7 (dk_at dksX6_does_2 13 rfl rfl)
theorem dX6_does_80 : decode cX6_does 80 = .ok (.iconst 1, 1) := dk_4 (dk_at dksX6_does_2 16 rfl rfl)
theorem dX6_does_81 : decode cX6_does 81 = .ok (.goto 4, 3) := dk_167 0 4 (dk_at dksX6_does_2 17 rfl rfl)
theorem dX6_does_84 : decode cX6_does 84 = .ok (.iconst 0, 1) := dk_3 (dk_at dksX6_does_2 20 rfl rfl)
theorem dX6_does_85 : decode cX6_does 85 = .ok (.ireturn, 1) := dk_172 (dk_at dksX6_does_2 21 rfl rfl)
theorem dX6_does_86 : decode cX6_does 86 = .ok (.aload_n 0, 1) := dk_42 (dk_at dksX6_does_2 22 rfl rfl)
theorem dX6_does_87 : decode cX6_does 87 = .ok (.getfield 7, 3) := dk_180 0 7 (dk_at dksX6_does_3 0 rfl rfl)
theorem dX6_does_90 : decode cX6_does 90 = .ok (.iconst 5, 1) := dk_8 (dk_at dksX6_does_3 3 rfl rfl)
theorem dX6_does_91 : decode cX6_does 91 = .ok (.iaload, 1) := dk_46 (dk_at dksX6_does_3 4 rfl rfl)
theorem dX6_does_92 : decode cX6_does 92 = .ok (.iload_n 2, 1) := dk_28 (dk_at dksX6_does_3 5 rfl rfl)
theorem dX6_does_93 : decode cX6_does 93 = .ok (.iadd, 1) := dk_96 (dk_at dksX6_does_3 6 rfl rfl)
theorem dX6_does_94 : decode cX6_does 94 = .ok (.sipush 9999, 3) := dk_17 39 15 (dk_at dksX6_does_3 7 rfl rfl)
theorem dX6_does_97 : decode cX6_does 97 = .ok (.if_icmp .gt 15, 3) := dk_163 0 15 (dk_at dksX6_does_3 10 rfl rfl)
theorem dX6_does_100 : decode cX6_does 100 = .ok (.aload_n 0, 1) := dk_42 (dk_at dksX6_does_3 13 rfl rfl)
theorem dX6_does_101 : decode cX6_does 101 = .ok (.iload_n 2, 1) := dk_28 (dk_at dksX6_does_3 14 rfl rfl)
theorem dX6_does_102 : decode cX6_does 102 = .ok (.invokevirtual 287, 3) := dk_182 1 31 (dk_at dksX6_does_3 15 rfl rfl)
theorem dX6_does_105 : decode cX6_does 105 = .ok (.ifCond .lt 7, 3) := dk_155 0 7 (dk_at dksX6_does_3 18 rfl rfl)
theorem dX6_does_108 : decode cX6_does 108 = .ok (.iconst 1, 1) := dk_4 (dk_at dksX6_does_3 21 rfl rfl)
theorem dX6_does_109 : decode cX6_does 109 = .ok (.goto 4, 3) := dk_167 0 4 (dk_at dksX6_does_4 0 rfl rfl)
theorem dX6_does_112 : decode cX6_does 112 = .ok (.iconst 0, 1) := dk_3 (dk_at dksX6_does_4 3 rfl rfl)
theorem dX6_does_113 : decode cX6_does 113 = .ok (.ireturn, 1) := dk_172 (dk_at dksX6_does_4 4 rfl rfl)
theorem dX6_does_114 : decode cX6_does 114 = .ok (.iload_n 2, 1) := dk_28 (dk_at dksX6_does_4 5 rfl rfl)
theorem dX6_does_115 : decode cX6_does 115 = .ok (.aload_n 0, 1) := dk_42 (dk_at dksX6_does_4 6 rfl rfl)
theorem dX6_does_116 : decode cX6_does 116 = .ok (.getfield 7, 3) := dk_180 0 7 (dk_at dksX6_does_4 7 rfl rfl)
theorem dX6_does_119 : decode cX6_does 119 = .ok (.iconst 4, 1) := dk_7 (dk_at dksX6_does_4 10 rfl rfl)
theorem dX6_does_120 : decode cX6_does 120 = .ok (.iaload, 1) := dk_46 (dk_at dksX6_does_4 11 rfl rfl)
theorem dX6_does_121 : decode cX6_does 121 = .ok (.if_icmp .ge 23, 3) := dk_162 0 23 (dk_at dksX6_does_4 12 rfl rfl)
theorem dX6_does_124 : decode cX6_does 124 = .ok (.aload_n 0, 1) := dk_42 (dk_at dksX6_does_4 15 rfl rfl)
theorem dX6_does_125 : decode cX6_does 125 = .ok (.iload_n 2, 1) := dk_28 (dk_at dksX6_does_4 16 rfl rfl)
theorem dX6_does_126 : decode cX6_does 126 = .ok (.invokevirtual 290, 3) := dk_182 1 34 (dk_at dksX6_does_4 17 rfl rfl)
theorem dX6_does_129 : decode cX6_does 129 = .ok (.ifCond .ne 15, 3) := dk_154 0 15 (dk_at dksX6_does_4 20 rfl rfl)
theorem dX6_does_132 : decode cX6_does 132 = .ok (.aload_n 0, 1) := dk_42 (dk_at dksX6_does_4 23 rfl rfl)
theorem dX6_does_133 : decode cX6_does 133 = .ok (.iload_n 2, 1) := dk_28 (dk_at dksX6_does_5 0 rfl rfl)
theorem dX6_does_134 : decode cX6_does 134 = .ok (.invokevirtual 293, 3) := dk_182 1 37 (dk_at dksX6_does_5 1 rfl rfl)
theorem dX6_does_137 : decode cX6_does 137 = .ok (.ifCond .lt 7, 3) := dk_155 0 7 (dk_at dksX6_does_5 4 rfl rfl)
theorem dX6_does_140 : decode cX6_does 140 = .ok (.iconst 1, 1) := dk_4 (dk_at dksX6_does_5 7 rfl rfl)
theorem dX6_does_141 : decode cX6_does 141 = .ok (.goto 4, 3) := dk_167 0 4 (dk_at dksX6_does_5 8 rfl rfl)
theorem dX6_does_144 : decode cX6_does 144 = .ok (.iconst 0, 1) := dk_3 (dk_at dksX6_does_5 11 rfl rfl)
theorem dX6_does_145 : decode cX6_does 145 = .ok (.ireturn, 1) := dk_172 (dk_at dksX6_does_5 12 rfl rfl)
theorem dX6_does_146 : decode cX6_does 146 = .ok (.aload_n 0, 1) := dk_42 (dk_at dksX6_does_5 13 rfl rfl)
theorem dX6_does_147 : decode cX6_does 147 = .ok (.iload_n 2, 1) := dk_28 (dk_at dksX6_does_5 14 rfl rfl)
theorem dX6_does_148 : decode cX6_does 148 = .ok (.invokevirtual 296, 3) := dk_182 1 40 (dk_at dksX6_does_5 15 rfl rfl)
theorem dX6_does_151 : decode cX6_does 151 = .ok (.ifCond .lt 7, 3) := dk_155 0 7 (dk_at dksX6_does_5 18 rfl rfl)
theorem dX6_does_154 : decode cX6_does 154 = .ok (.iconst 1, 1) := dk_4 (dk_at dksX6_does_5 21 rfl rfl)
theorem dX6_does_155 : decode cX6_does 155 = .ok (.goto 4, 3) := dk_167 0 4 (dk_at dksX6_does_6 0 rfl rfl)
theorem dX6_does_158 : decode cX6_does 158 = .ok (.iconst 0, 1) := dk_3 (dk_at dksX6_does_6 3 rfl rfl)
theorem dX6_does_159 : decode cX6_does 159 = .ok (.ireturn, 1) := dk_172 (dk_at dksX6_does_6 4 rfl rfl)
theorem dX6_does_160 : decode cX6_does 160 = .ok (.aload_n 0, 1) := dk_42 (dk_at dksX6_does_6 5 rfl rfl)
theorem dX6_does_161 : decode cX6_does 161 = .ok (.iload_n 2, 1) := dk_28 (dk_at dksX6_does_6 6 rfl rfl)
theorem dX6_does_162 : decode cX6_does 162 = .ok (.iconst 0, 1) := dk_3 (dk_at dksX6_does_6 7 rfl rfl)
theorem dX6_does_163 : decode cX6_does 163 = .ok (.invokevirtual 299, 3) := dk_182 1 43 (dk_at dksX6_does_6 8 rfl rfl)
theorem dX6_does_166 : decode cX6_does 166 = .ok (.ifCond .lt 7, 3) := dk_155 0 7 (dk_at dksX6_does_6 11 rfl rfl)
theorem dX6_does_169 : decode cX6_does 169 = .ok (.iconst 1, 1) := dk_4 (dk_at dksX6_does_6 14 rfl rfl)
theorem dX6_does_170 : decode cX6_does 170 = .ok (.goto 4, 3) := dk_167 0 4 (dk_at dksX6_does_6 15 rfl rfl)
theorem dX6_does_173 : decode cX6_does 173 = .ok (.iconst 0, 1) := dk_3 (dk_at dksX6_does_6 18 rfl rfl)
theorem dX6_does_174 : decode cX6_does 174 = .ok (.ireturn, 1) := dk_172 (dk_at dksX6_does_6 19 rfl rfl)
theorem dX6_does_175 : decode cX6_does 175 = .ok (.aload_n 0, 1) := dk_42 (dk_at dksX6_does_6 20 rfl rfl)
theorem dX6_does_176 : decode cX6_does 176 = .ok (.iload_n 2, 1) := dk_28 (dk_at dksX6_does_6 21 rfl rfl)
theorem dX6_does_177 : decode cX6_does 177 = .ok (.iconst 1, 1) := dk_4 (dk_at dksX6_does_6 22 rfl rfl)
theorem dX6_does_178 : decode cX6_does 178 = .ok (.invokevirtual 299, 3) := dk_182 1 43 (dk_at dksX6_does_7 0 rfl rfl)
theorem dX6_does_181 : decode cX6_does 181 = .ok (.ifCond .lt 7, 3) := dk_155 0 7 (dk_at dksX6_does_7 3 rfl rfl)
theorem dX6_does_184 : decode cX6_does 184 = .ok (.iconst 1, 1) := dk_4 (dk_at dksX6_does_7 6 rfl rfl)
theorem dX6_does_185 : decode cX6_does 185 = .ok (.goto 4, 3) := dk_167 0 4 (dk_at dksX6_does_7 7 rfl rfl)
theorem dX6_does_188 : decode cX6_does 188 = .ok (.iconst 0, 1) := dk_3 (dk_at dksX6_does_7 10 rfl rfl)
theorem dX6_does_189 : decode cX6_does 189 = .ok (.ireturn, 1) := dk_172 (dk_at dksX6_does_7 11 rfl rfl)
theorem dX6_does_190 : decode cX6_does 190 = .ok (.aload_n 0, 1) := dk_42 (dk_at dksX6_does_7 12 rfl rfl)
theorem dX6_does_191 : decode cX6_does 191 = .ok (.iload_n 2, 1) := dk_28 (dk_at dksX6_does_7 13 rfl rfl)
theorem dX6_does_192 : decode cX6_does 192 = .ok (.iload_n 3, 1) := dk_29 (dk_at dksX6_does_7 14 rfl rfl)
theorem dX6_does_193 : decode cX6_does 193 = .ok (.invokevirtual 302, 3) := dk_182 1 46 (dk_at dksX6_does_7 15 rfl rfl)
theorem dX6_does_196 : decode cX6_does 196 = .ok (.ifCond .lt 7, 3) := dk_155 0 7 (dk_at dksX6_does_7 18 rfl rfl)
theorem dX6_does_199 : decode cX6_does 199 = .ok (.iconst 1, 1) := dk_4 (dk_at dksX6_does_7 21 rfl rfl)
theorem dX6_does_200 : decode cX6_does 200 = .ok (.goto 4, 3) := dk_167 0 4 (dk_at dksX6_does_8 0 rfl rfl)
theorem dX6_does_203 : decode cX6_does 203 = .ok (.iconst 0, 1) := dk_3 (dk_at dksX6_does_8 3 rfl rfl)
theorem dX6_does_204 : decode cX6_does 204 = .ok (.ireturn, 1) := dk_172 (dk_at dksX6_does_8 4 rfl rfl)
theorem dX6_does_205 : decode cX6_does 205 = .ok (.aload_n 0, 1) := dk_42 (dk_at dksX6_does_8 5 rfl rfl)
theorem dX6_does_206 : decode cX6_does 206 = .ok (.iconst (-1), 1) := dk_2 (dk_at dksX6_does_8 6 rfl rfl)
theorem dX6_does_207 : decode cX6_does 207 = .ok (.iload_n 2, 1) := dk_28 (dk_at dksX6_does_8 7 rfl rfl)
theorem dX6_does_208 : decode cX6_does 208 = .ok (.invokevirtual 302, 3) := dk_182 1 46 (dk_at dksX6_does_8 8 rfl rfl)
theorem dX6_does_211 : decode cX6_does 211 = .ok (.ifCond .lt 7, 3) := dk_155 0 7 (dk_at dksX6_does_8 11 rfl rfl)
theorem dX6_does_214 : decode cX6_does 214 = .ok (.iconst 1, 1) := dk_4 (dk_at dksX6_does_8 14 rfl rfl)
theorem dX6_does_215 : decode cX6_does 215 = .ok (.goto 4, 3) := dk_167 0 4 (dk_at dksX6_does_8 15 rfl rfl)
theorem dX6_does_218 : decode cX6_does 218 = .ok (.iconst 0, 1) := dk_3 (dk_at dksX6_does_8 18 rfl rfl)
theorem dX6_does_219 : decode cX6_does 219 = .ok (.ireturn, 1) := dk_172 (dk_at dksX6_does_8 19 rfl rfl)
abbrev cX6_barsPut : ByteArray := prog_19_method_32_code
def yX6_barsPut : MethodName := ⟨RX6, "barsPut", "()I"⟩
def dkwX6_barsPut_1 : List UInt8 := [160, 0, 7, 3, 167, 0, 4, 5, 172]
abbrev dktX6_barsPut_1 : List UInt8 := dkwX6_barsPut_1 ++ []
def dkwX6_barsPut_0 : List UInt8 := [42, 180, 0, 7, 7, 46, 16, 40, 160, 0, 5, 4, 172, 42, 42, 180, 0, 7, 4, 46, 182, 0, 101, 2]
abbrev dktX6_barsPut_0 : List UInt8 := dkwX6_barsPut_0 ++ dktX6_barsPut_1
theorem dksX6_barsPut_0 : cX6_barsPut.data.toList.drop 0 = dktX6_barsPut_0 := by decide +kernel
theorem dksX6_barsPut_1 : cX6_barsPut.data.toList.drop 24 = dktX6_barsPut_1 := dk_seg dksX6_barsPut_0 24 rfl rfl
theorem dX6_barsPut_0 : decode cX6_barsPut 0 = .ok (.aload_n 0, 1) := dk_42 (dk_at dksX6_barsPut_0 0 rfl rfl)
theorem dX6_barsPut_1 : decode cX6_barsPut 1 = .ok (.getfield 7, 3) := dk_180 0 7 (dk_at dksX6_barsPut_0 1 rfl rfl)
theorem dX6_barsPut_4 : decode cX6_barsPut 4 = .ok (.iconst 4, 1) := dk_7 (dk_at dksX6_barsPut_0 4 rfl rfl)
theorem dX6_barsPut_5 : decode cX6_barsPut 5 = .ok (.iaload, 1) := dk_46 (dk_at dksX6_barsPut_0 5 rfl rfl)
theorem dX6_barsPut_6 : decode cX6_barsPut 6 = .ok (.bipush 40, 2) := dk_16 40 (dk_at dksX6_barsPut_0 6 rfl rfl)
theorem dX6_barsPut_8 : decode cX6_barsPut 8 = .ok (.if_icmp .ne 5, 3) := dk_160 0 5 (dk_at dksX6_barsPut_0 8 rfl rfl)
theorem dX6_barsPut_11 : decode cX6_barsPut 11 = .ok (.iconst 1, 1) := dk_4 (dk_at dksX6_barsPut_0 11 rfl rfl)
theorem dX6_barsPut_12 : decode cX6_barsPut 12 = .ok (.ireturn, 1) := dk_172 (dk_at dksX6_barsPut_0 12 rfl rfl)
theorem dX6_barsPut_13 : decode cX6_barsPut 13 = .ok (.aload_n 0, 1) := dk_42 (dk_at dksX6_barsPut_0 13 rfl rfl)
theorem dX6_barsPut_14 : decode cX6_barsPut 14 = .ok (.aload_n 0, 1) := dk_42 (dk_at dksX6_barsPut_0 14 rfl rfl)
theorem dX6_barsPut_15 : decode cX6_barsPut 15 = .ok (.getfield 7, 3) := dk_180 0 7 (dk_at dksX6_barsPut_0 15 rfl rfl)
theorem dX6_barsPut_18 : decode cX6_barsPut 18 = .ok (.iconst 1, 1) := dk_4 (dk_at dksX6_barsPut_0 18 rfl rfl)
theorem dX6_barsPut_19 : decode cX6_barsPut 19 = .ok (.iaload, 1) := dk_46 (dk_at dksX6_barsPut_0 19 rfl rfl)
theorem dX6_barsPut_20 : decode cX6_barsPut 20 = .ok (.invokevirtual 101, 3) := dk_182 0 101 (dk_at dksX6_barsPut_0 20 rfl rfl)
theorem dX6_barsPut_23 : decode cX6_barsPut 23 = .ok (.iconst (-1), 1) := dk_2 (dk_at dksX6_barsPut_0 23 rfl rfl)
theorem dX6_barsPut_24 : decode cX6_barsPut 24 = .ok (.if_icmp .ne 7, 3) := dk_160 0 7 (dk_at dksX6_barsPut_1 0 rfl rfl)
theorem dX6_barsPut_27 : decode cX6_barsPut 27 = .ok (.iconst 0, 1) := dk_3 (dk_at dksX6_barsPut_1 3 rfl rfl)
theorem dX6_barsPut_28 : decode cX6_barsPut 28 = .ok (.goto 4, 3) := dk_167 0 4 (dk_at dksX6_barsPut_1 4 rfl rfl)
theorem dX6_barsPut_31 : decode cX6_barsPut 31 = .ok (.iconst 2, 1) := dk_5 (dk_at dksX6_barsPut_1 7 rfl rfl)
theorem dX6_barsPut_32 : decode cX6_barsPut 32 = .ok (.ireturn, 1) := dk_172 (dk_at dksX6_barsPut_1 8 rfl rfl)
abbrev cX6_parcelIn : ByteArray := prog_19_method_18_code
def yX6_parcelIn : MethodName := ⟨RX6, "parcelIn", "(I)I"⟩
def dkwX6_parcelIn_1 : List UInt8 := [182, 0, 62, 27, 160, 0, 5, 28, 172, 132, 2, 1, 167, 255, 223, 2, 172]
abbrev dktX6_parcelIn_1 : List UInt8 := dkwX6_parcelIn_1 ++ []
def dkwX6_parcelIn_0 : List UInt8 := [3, 61, 28, 42, 180, 0, 7, 7, 46, 162, 0, 29, 42, 28, 182, 0, 66, 153, 0, 15, 42, 28, 7]
abbrev dktX6_parcelIn_0 : List UInt8 := dkwX6_parcelIn_0 ++ dktX6_parcelIn_1
theorem dksX6_parcelIn_0 : cX6_parcelIn.data.toList.drop 0 = dktX6_parcelIn_0 := by decide +kernel
theorem dksX6_parcelIn_1 : cX6_parcelIn.data.toList.drop 23 = dktX6_parcelIn_1 := dk_seg dksX6_parcelIn_0 23 rfl rfl
theorem dX6_parcelIn_0 : decode cX6_parcelIn 0 = .ok (.iconst 0, 1) := dk_3 (dk_at dksX6_parcelIn_0 0 rfl rfl)
theorem dX6_parcelIn_1 : decode cX6_parcelIn 1 = .ok (.istore_n 2, 1) := dk_61 (dk_at dksX6_parcelIn_0 1 rfl rfl)
theorem dX6_parcelIn_2 : decode cX6_parcelIn 2 = .ok (.iload_n 2, 1) := dk_28 (dk_at dksX6_parcelIn_0 2 rfl rfl)
theorem dX6_parcelIn_3 : decode cX6_parcelIn 3 = .ok (.aload_n 0, 1) := dk_42 (dk_at dksX6_parcelIn_0 3 rfl rfl)
theorem dX6_parcelIn_4 : decode cX6_parcelIn 4 = .ok (.getfield 7, 3) := dk_180 0 7 (dk_at dksX6_parcelIn_0 4 rfl rfl)
theorem dX6_parcelIn_7 : decode cX6_parcelIn 7 = .ok (.iconst 4, 1) := dk_7 (dk_at dksX6_parcelIn_0 7 rfl rfl)
theorem dX6_parcelIn_8 : decode cX6_parcelIn 8 = .ok (.iaload, 1) := dk_46 (dk_at dksX6_parcelIn_0 8 rfl rfl)
theorem dX6_parcelIn_9 : decode cX6_parcelIn 9 = .ok (.if_icmp .ge 29, 3) := dk_162 0 29 (dk_at dksX6_parcelIn_0 9 rfl rfl)
theorem dX6_parcelIn_12 : decode cX6_parcelIn 12 = .ok (.aload_n 0, 1) := dk_42 (dk_at dksX6_parcelIn_0 12 rfl rfl)
theorem dX6_parcelIn_13 : decode cX6_parcelIn 13 = .ok (.iload_n 2, 1) := dk_28 (dk_at dksX6_parcelIn_0 13 rfl rfl)
theorem dX6_parcelIn_14 : decode cX6_parcelIn 14 = .ok (.invokevirtual 66, 3) := dk_182 0 66 (dk_at dksX6_parcelIn_0 14 rfl rfl)
theorem dX6_parcelIn_17 : decode cX6_parcelIn 17 = .ok (.ifCond .eq 15, 3) := dk_153 0 15 (dk_at dksX6_parcelIn_0 17 rfl rfl)
theorem dX6_parcelIn_20 : decode cX6_parcelIn 20 = .ok (.aload_n 0, 1) := dk_42 (dk_at dksX6_parcelIn_0 20 rfl rfl)
theorem dX6_parcelIn_21 : decode cX6_parcelIn 21 = .ok (.iload_n 2, 1) := dk_28 (dk_at dksX6_parcelIn_0 21 rfl rfl)
theorem dX6_parcelIn_22 : decode cX6_parcelIn 22 = .ok (.iconst 4, 1) := dk_7 (dk_at dksX6_parcelIn_0 22 rfl rfl)
theorem dX6_parcelIn_23 : decode cX6_parcelIn 23 = .ok (.invokevirtual 62, 3) := dk_182 0 62 (dk_at dksX6_parcelIn_1 0 rfl rfl)
theorem dX6_parcelIn_26 : decode cX6_parcelIn 26 = .ok (.iload_n 1, 1) := dk_27 (dk_at dksX6_parcelIn_1 3 rfl rfl)
theorem dX6_parcelIn_27 : decode cX6_parcelIn 27 = .ok (.if_icmp .ne 5, 3) := dk_160 0 5 (dk_at dksX6_parcelIn_1 4 rfl rfl)
theorem dX6_parcelIn_30 : decode cX6_parcelIn 30 = .ok (.iload_n 2, 1) := dk_28 (dk_at dksX6_parcelIn_1 7 rfl rfl)
theorem dX6_parcelIn_31 : decode cX6_parcelIn 31 = .ok (.ireturn, 1) := dk_172 (dk_at dksX6_parcelIn_1 8 rfl rfl)
theorem dX6_parcelIn_32 : decode cX6_parcelIn 32 = .ok (.iinc 2 1, 3) := dk_132 2 1 (dk_at dksX6_parcelIn_1 9 rfl rfl)
theorem dX6_parcelIn_35 : decode cX6_parcelIn 35 = .ok (.goto (-33), 3) := dk_167 255 223 (dk_at dksX6_parcelIn_1 12 rfl rfl)
theorem dX6_parcelIn_38 : decode cX6_parcelIn 38 = .ok (.iconst (-1), 1) := dk_2 (dk_at dksX6_parcelIn_1 15 rfl rfl)
theorem dX6_parcelIn_39 : decode cX6_parcelIn 39 = .ok (.ireturn, 1) := dk_172 (dk_at dksX6_parcelIn_1 16 rfl rfl)
abbrev cX6_isOn : ByteArray := prog_19_method_14_code
def yX6_isOn : MethodName := ⟨RX6, "isOn", "(I)Z"⟩
def dkwX6_isOn_0 : List UInt8 := [42, 27, 6, 182, 0, 62, 154, 0, 7, 4, 167, 0, 4, 3, 172]
abbrev dktX6_isOn_0 : List UInt8 := dkwX6_isOn_0 ++ []
theorem dksX6_isOn_0 : cX6_isOn.data.toList.drop 0 = dktX6_isOn_0 := by decide +kernel
theorem dX6_isOn_0 : decode cX6_isOn 0 = .ok (.aload_n 0, 1) := dk_42 (dk_at dksX6_isOn_0 0 rfl rfl)
theorem dX6_isOn_1 : decode cX6_isOn 1 = .ok (.iload_n 1, 1) := dk_27 (dk_at dksX6_isOn_0 1 rfl rfl)
theorem dX6_isOn_2 : decode cX6_isOn 2 = .ok (.iconst 3, 1) := dk_6 (dk_at dksX6_isOn_0 2 rfl rfl)
theorem dX6_isOn_3 : decode cX6_isOn 3 = .ok (.invokevirtual 62, 3) := dk_182 0 62 (dk_at dksX6_isOn_0 3 rfl rfl)
theorem dX6_isOn_6 : decode cX6_isOn 6 = .ok (.ifCond .ne 7, 3) := dk_154 0 7 (dk_at dksX6_isOn_0 6 rfl rfl)
theorem dX6_isOn_9 : decode cX6_isOn 9 = .ok (.iconst 1, 1) := dk_4 (dk_at dksX6_isOn_0 9 rfl rfl)
theorem dX6_isOn_10 : decode cX6_isOn 10 = .ok (.goto 4, 3) := dk_167 0 4 (dk_at dksX6_isOn_0 10 rfl rfl)
theorem dX6_isOn_13 : decode cX6_isOn 13 = .ok (.iconst 0, 1) := dk_3 (dk_at dksX6_isOn_0 13 rfl rfl)
theorem dX6_isOn_14 : decode cX6_isOn 14 = .ok (.ireturn, 1) := dk_172 (dk_at dksX6_isOn_0 14 rfl rfl)
abbrev cX6_of : ByteArray := prog_19_method_11_code
def yX6_of : MethodName := ⟨RX6, "of", "(II)I"⟩
def dkwX6_of_0 : List UInt8 := [42, 180, 0, 7, 16, 125, 16, 10, 27, 104, 96, 28, 96, 46, 172]
abbrev dktX6_of_0 : List UInt8 := dkwX6_of_0 ++ []
theorem dksX6_of_0 : cX6_of.data.toList.drop 0 = dktX6_of_0 := by decide +kernel
theorem dX6_of_0 : decode cX6_of 0 = .ok (.aload_n 0, 1) := dk_42 (dk_at dksX6_of_0 0 rfl rfl)
theorem dX6_of_1 : decode cX6_of 1 = .ok (.getfield 7, 3) := dk_180 0 7 (dk_at dksX6_of_0 1 rfl rfl)
theorem dX6_of_4 : decode cX6_of 4 = .ok (.bipush 125, 2) := dk_16 125 (dk_at dksX6_of_0 4 rfl rfl)
theorem dX6_of_6 : decode cX6_of 6 = .ok (.bipush 10, 2) := dk_16 10 (dk_at dksX6_of_0 6 rfl rfl)
theorem dX6_of_8 : decode cX6_of 8 = .ok (.iload_n 1, 1) := dk_27 (dk_at dksX6_of_0 8 rfl rfl)
theorem dX6_of_9 : decode cX6_of 9 = .ok (.imul, 1) := dk_104 (dk_at dksX6_of_0 9 rfl rfl)
theorem dX6_of_10 : decode cX6_of 10 = .ok (.iadd, 1) := dk_96 (dk_at dksX6_of_0 10 rfl rfl)
theorem dX6_of_11 : decode cX6_of 11 = .ok (.iload_n 2, 1) := dk_28 (dk_at dksX6_of_0 11 rfl rfl)
theorem dX6_of_12 : decode cX6_of 12 = .ok (.iadd, 1) := dk_96 (dk_at dksX6_of_0 12 rfl rfl)
theorem dX6_of_13 : decode cX6_of 13 = .ok (.iaload, 1) := dk_46 (dk_at dksX6_of_0 13 rfl rfl)
theorem dX6_of_14 : decode cX6_of 14 = .ok (.ireturn, 1) := dk_172 (dk_at dksX6_of_0 14 rfl rfl)
abbrev cX6_comes : ByteArray := prog_19_method_34_code
def yX6_comes : MethodName := ⟨RX6, "comes", "(II)I"⟩
def dkwX6_comes_3 : List UInt8 := [180, 0, 7, 7, 92, 46, 4, 96, 79, 42, 4, 4, 182, 0, 91, 29, 172]
abbrev dktX6_comes_3 : List UInt8 := dkwX6_comes_3 ++ []
def dkwX6_comes_2 : List UInt8 := [4, 46, 182, 0, 85, 42, 29, 16, 7, 2, 182, 0, 85, 42, 29, 16, 8, 2, 182, 0, 85, 42]
abbrev dktX6_comes_2 : List UInt8 := dkwX6_comes_2 ++ dktX6_comes_3
def dkwX6_comes_1 : List UInt8 := [42, 180, 0, 7, 4, 46, 182, 0, 85, 42, 29, 8, 4, 182, 0, 85, 42, 29, 16, 6, 42, 180, 0, 7]
abbrev dktX6_comes_1 : List UInt8 := dkwX6_comes_1 ++ dktX6_comes_2
def dkwX6_comes_0 : List UInt8 := [42, 180, 0, 7, 7, 46, 62, 42, 29, 3, 27, 182, 0, 85, 42, 29, 4, 28, 182, 0, 85, 42, 29, 7]
abbrev dktX6_comes_0 : List UInt8 := dkwX6_comes_0 ++ dktX6_comes_1
theorem dksX6_comes_0 : cX6_comes.data.toList.drop 0 = dktX6_comes_0 := by decide +kernel
theorem dksX6_comes_1 : cX6_comes.data.toList.drop 24 = dktX6_comes_1 := dk_seg dksX6_comes_0 24 rfl rfl
theorem dksX6_comes_2 : cX6_comes.data.toList.drop 48 = dktX6_comes_2 := dk_seg dksX6_comes_1 24 rfl rfl
theorem dksX6_comes_3 : cX6_comes.data.toList.drop 70 = dktX6_comes_3 := dk_seg dksX6_comes_2 22 rfl rfl
theorem dX6_comes_0 : decode cX6_comes 0 = .ok (.aload_n 0, 1) := dk_42 (dk_at dksX6_comes_0 0 rfl rfl)
theorem dX6_comes_1 : decode cX6_comes 1 = .ok (.getfield 7, 3) := dk_180 0 7 (dk_at dksX6_comes_0 1 rfl rfl)
theorem dX6_comes_4 : decode cX6_comes 4 = .ok (.iconst 4, 1) := dk_7 (dk_at dksX6_comes_0 4 rfl rfl)
theorem dX6_comes_5 : decode cX6_comes 5 = .ok (.iaload, 1) := dk_46 (dk_at dksX6_comes_0 5 rfl rfl)
theorem dX6_comes_6 : decode cX6_comes 6 = .ok (.istore_n 3, 1) := dk_62 (dk_at dksX6_comes_0 6 rfl rfl)
theorem dX6_comes_7 : decode cX6_comes 7 = .ok (.aload_n 0, 1) := dk_42 (dk_at dksX6_comes_0 7 rfl rfl)
theorem dX6_comes_8 : decode cX6_comes 8 = .ok (.iload_n 3, 1) := dk_29 (dk_at dksX6_comes_0 8 rfl rfl)
theorem dX6_comes_9 : decode cX6_comes 9 = .ok (.iconst 0, 1) := dk_3 (dk_at dksX6_comes_0 9 rfl rfl)
theorem dX6_comes_10 : decode cX6_comes 10 = .ok (.iload_n 1, 1) := dk_27 (dk_at dksX6_comes_0 10 rfl rfl)
theorem dX6_comes_11 : decode cX6_comes 11 = .ok (.invokevirtual 85, 3) := dk_182 0 85 (dk_at dksX6_comes_0 11 rfl rfl)
theorem dX6_comes_14 : decode cX6_comes 14 = .ok (.aload_n 0, 1) := dk_42 (dk_at dksX6_comes_0 14 rfl rfl)
theorem dX6_comes_15 : decode cX6_comes 15 = .ok (.iload_n 3, 1) := dk_29 (dk_at dksX6_comes_0 15 rfl rfl)
theorem dX6_comes_16 : decode cX6_comes 16 = .ok (.iconst 1, 1) := dk_4 (dk_at dksX6_comes_0 16 rfl rfl)
theorem dX6_comes_17 : decode cX6_comes 17 = .ok (.iload_n 2, 1) := dk_28 (dk_at dksX6_comes_0 17 rfl rfl)
theorem dX6_comes_18 : decode cX6_comes 18 = .ok (.invokevirtual 85, 3) := dk_182 0 85 (dk_at dksX6_comes_0 18 rfl rfl)
theorem dX6_comes_21 : decode cX6_comes 21 = .ok (.aload_n 0, 1) := dk_42 (dk_at dksX6_comes_0 21 rfl rfl)
theorem dX6_comes_22 : decode cX6_comes 22 = .ok (.iload_n 3, 1) := dk_29 (dk_at dksX6_comes_0 22 rfl rfl)
theorem dX6_comes_23 : decode cX6_comes 23 = .ok (.iconst 4, 1) := dk_7 (dk_at dksX6_comes_0 23 rfl rfl)
theorem dX6_comes_24 : decode cX6_comes 24 = .ok (.aload_n 0, 1) := dk_42 (dk_at dksX6_comes_1 0 rfl rfl)
theorem dX6_comes_25 : decode cX6_comes 25 = .ok (.getfield 7, 3) := dk_180 0 7 (dk_at dksX6_comes_1 1 rfl rfl)
theorem dX6_comes_28 : decode cX6_comes 28 = .ok (.iconst 1, 1) := dk_4 (dk_at dksX6_comes_1 4 rfl rfl)
theorem dX6_comes_29 : decode cX6_comes 29 = .ok (.iaload, 1) := dk_46 (dk_at dksX6_comes_1 5 rfl rfl)
theorem dX6_comes_30 : decode cX6_comes 30 = .ok (.invokevirtual 85, 3) := dk_182 0 85 (dk_at dksX6_comes_1 6 rfl rfl)
theorem dX6_comes_33 : decode cX6_comes 33 = .ok (.aload_n 0, 1) := dk_42 (dk_at dksX6_comes_1 9 rfl rfl)
theorem dX6_comes_34 : decode cX6_comes 34 = .ok (.iload_n 3, 1) := dk_29 (dk_at dksX6_comes_1 10 rfl rfl)
theorem dX6_comes_35 : decode cX6_comes 35 = .ok (.iconst 5, 1) := dk_8 (dk_at dksX6_comes_1 11 rfl rfl)
theorem dX6_comes_36 : decode cX6_comes 36 = .ok (.iconst 1, 1) := dk_4 (dk_at dksX6_comes_1 12 rfl rfl)
theorem dX6_comes_37 : decode cX6_comes 37 = .ok (.invokevirtual 85, 3) := dk_182 0 85 (dk_at dksX6_comes_1 13 rfl rfl)
theorem dX6_comes_40 : decode cX6_comes 40 = .ok (.aload_n 0, 1) := dk_42 (dk_at dksX6_comes_1 16 rfl rfl)
theorem dX6_comes_41 : decode cX6_comes 41 = .ok (.iload_n 3, 1) := dk_29 (dk_at dksX6_comes_1 17 rfl rfl)
theorem dX6_comes_42 : decode cX6_comes 42 = .ok (.bipush 6, 2) := dk_16 6 (dk_at dksX6_comes_1 18 rfl rfl)
theorem dX6_comes_44 : decode cX6_comes 44 = .ok (.aload_n 0, 1) := dk_42 (dk_at dksX6_comes_1 20 rfl rfl)
theorem dX6_comes_45 : decode cX6_comes 45 = .ok (.getfield 7, 3) := dk_180 0 7 (dk_at dksX6_comes_1 21 rfl rfl)
theorem dX6_comes_48 : decode cX6_comes 48 = .ok (.iconst 1, 1) := dk_4 (dk_at dksX6_comes_2 0 rfl rfl)
theorem dX6_comes_49 : decode cX6_comes 49 = .ok (.iaload, 1) := dk_46 (dk_at dksX6_comes_2 1 rfl rfl)
theorem dX6_comes_50 : decode cX6_comes 50 = .ok (.invokevirtual 85, 3) := dk_182 0 85 (dk_at dksX6_comes_2 2 rfl rfl)
theorem dX6_comes_53 : decode cX6_comes 53 = .ok (.aload_n 0, 1) := dk_42 (dk_at dksX6_comes_2 5 rfl rfl)
theorem dX6_comes_54 : decode cX6_comes 54 = .ok (.iload_n 3, 1) := dk_29 (dk_at dksX6_comes_2 6 rfl rfl)
theorem dX6_comes_55 : decode cX6_comes 55 = .ok (.bipush 7, 2) := dk_16 7 (dk_at dksX6_comes_2 7 rfl rfl)
theorem dX6_comes_57 : decode cX6_comes 57 = .ok (.iconst (-1), 1) := dk_2 (dk_at dksX6_comes_2 9 rfl rfl)
theorem dX6_comes_58 : decode cX6_comes 58 = .ok (.invokevirtual 85, 3) := dk_182 0 85 (dk_at dksX6_comes_2 10 rfl rfl)
theorem dX6_comes_61 : decode cX6_comes 61 = .ok (.aload_n 0, 1) := dk_42 (dk_at dksX6_comes_2 13 rfl rfl)
theorem dX6_comes_62 : decode cX6_comes 62 = .ok (.iload_n 3, 1) := dk_29 (dk_at dksX6_comes_2 14 rfl rfl)
theorem dX6_comes_63 : decode cX6_comes 63 = .ok (.bipush 8, 2) := dk_16 8 (dk_at dksX6_comes_2 15 rfl rfl)
theorem dX6_comes_65 : decode cX6_comes 65 = .ok (.iconst (-1), 1) := dk_2 (dk_at dksX6_comes_2 17 rfl rfl)
theorem dX6_comes_66 : decode cX6_comes 66 = .ok (.invokevirtual 85, 3) := dk_182 0 85 (dk_at dksX6_comes_2 18 rfl rfl)
theorem dX6_comes_69 : decode cX6_comes 69 = .ok (.aload_n 0, 1) := dk_42 (dk_at dksX6_comes_2 21 rfl rfl)
theorem dX6_comes_70 : decode cX6_comes 70 = .ok (.getfield 7, 3) := dk_180 0 7 (dk_at dksX6_comes_3 0 rfl rfl)
theorem dX6_comes_73 : decode cX6_comes 73 = .ok (.iconst 4, 1) := dk_7 (dk_at dksX6_comes_3 3 rfl rfl)
theorem dX6_comes_74 : decode cX6_comes 74 = .ok (.dup2, 1) := dk_92 (dk_at dksX6_comes_3 4 rfl rfl)
theorem dX6_comes_75 : decode cX6_comes 75 = .ok (.iaload, 1) := dk_46 (dk_at dksX6_comes_3 5 rfl rfl)
theorem dX6_comes_76 : decode cX6_comes 76 = .ok (.iconst 1, 1) := dk_4 (dk_at dksX6_comes_3 6 rfl rfl)
theorem dX6_comes_77 : decode cX6_comes 77 = .ok (.iadd, 1) := dk_96 (dk_at dksX6_comes_3 7 rfl rfl)
theorem dX6_comes_78 : decode cX6_comes 78 = .ok (.iastore, 1) := dk_79 (dk_at dksX6_comes_3 8 rfl rfl)
theorem dX6_comes_79 : decode cX6_comes 79 = .ok (.aload_n 0, 1) := dk_42 (dk_at dksX6_comes_3 9 rfl rfl)
theorem dX6_comes_80 : decode cX6_comes 80 = .ok (.iconst 1, 1) := dk_4 (dk_at dksX6_comes_3 10 rfl rfl)
theorem dX6_comes_81 : decode cX6_comes 81 = .ok (.iconst 1, 1) := dk_4 (dk_at dksX6_comes_3 11 rfl rfl)
theorem dX6_comes_82 : decode cX6_comes 82 = .ok (.invokevirtual 91, 3) := dk_182 0 91 (dk_at dksX6_comes_3 12 rfl rfl)
theorem dX6_comes_85 : decode cX6_comes 85 = .ok (.iload_n 3, 1) := dk_29 (dk_at dksX6_comes_3 15 rfl rfl)
theorem dX6_comes_86 : decode cX6_comes 86 = .ok (.ireturn, 1) := dk_172 (dk_at dksX6_comes_3 16 rfl rfl)
abbrev cX6_puts : ByteArray := prog_19_method_12_code
def yX6_puts : MethodName := ⟨RX6, "puts", "(III)V"⟩
def dkwX6_puts_0 : List UInt8 := [42, 180, 0, 7, 16, 125, 16, 10, 27, 104, 96, 28, 96, 29, 79, 177]
abbrev dktX6_puts_0 : List UInt8 := dkwX6_puts_0 ++ []
theorem dksX6_puts_0 : cX6_puts.data.toList.drop 0 = dktX6_puts_0 := by decide +kernel
theorem dX6_puts_0 : decode cX6_puts 0 = .ok (.aload_n 0, 1) := dk_42 (dk_at dksX6_puts_0 0 rfl rfl)
theorem dX6_puts_1 : decode cX6_puts 1 = .ok (.getfield 7, 3) := dk_180 0 7 (dk_at dksX6_puts_0 1 rfl rfl)
theorem dX6_puts_4 : decode cX6_puts 4 = .ok (.bipush 125, 2) := dk_16 125 (dk_at dksX6_puts_0 4 rfl rfl)
theorem dX6_puts_6 : decode cX6_puts 6 = .ok (.bipush 10, 2) := dk_16 10 (dk_at dksX6_puts_0 6 rfl rfl)
theorem dX6_puts_8 : decode cX6_puts 8 = .ok (.iload_n 1, 1) := dk_27 (dk_at dksX6_puts_0 8 rfl rfl)
theorem dX6_puts_9 : decode cX6_puts 9 = .ok (.imul, 1) := dk_104 (dk_at dksX6_puts_0 9 rfl rfl)
theorem dX6_puts_10 : decode cX6_puts 10 = .ok (.iadd, 1) := dk_96 (dk_at dksX6_puts_0 10 rfl rfl)
theorem dX6_puts_11 : decode cX6_puts 11 = .ok (.iload_n 2, 1) := dk_28 (dk_at dksX6_puts_0 11 rfl rfl)
theorem dX6_puts_12 : decode cX6_puts 12 = .ok (.iadd, 1) := dk_96 (dk_at dksX6_puts_0 12 rfl rfl)
theorem dX6_puts_13 : decode cX6_puts 13 = .ok (.iload_n 3, 1) := dk_29 (dk_at dksX6_puts_0 13 rfl rfl)
theorem dX6_puts_14 : decode cX6_puts 14 = .ok (.iastore, 1) := dk_79 (dk_at dksX6_puts_0 14 rfl rfl)
theorem dX6_puts_15 : decode cX6_puts 15 = .ok (.return_, 1) := dk_177 (dk_at dksX6_puts_0 15 rfl rfl)
abbrev cX6_counts : ByteArray := prog_19_method_7_code
def yX6_counts : MethodName := ⟨RX6, "counts", "(II)V"⟩
def dkwX6_counts_0 : List UInt8 := [42, 180, 0, 7, 16, 7, 27, 96, 92, 46, 28, 96, 79, 177]
abbrev dktX6_counts_0 : List UInt8 := dkwX6_counts_0 ++ []
theorem dksX6_counts_0 : cX6_counts.data.toList.drop 0 = dktX6_counts_0 := by decide +kernel
theorem dX6_counts_0 : decode cX6_counts 0 = .ok (.aload_n 0, 1) := dk_42 (dk_at dksX6_counts_0 0 rfl rfl)
theorem dX6_counts_1 : decode cX6_counts 1 = .ok (.getfield 7, 3) := dk_180 0 7 (dk_at dksX6_counts_0 1 rfl rfl)
theorem dX6_counts_4 : decode cX6_counts 4 = .ok (.bipush 7, 2) := dk_16 7 (dk_at dksX6_counts_0 4 rfl rfl)
theorem dX6_counts_6 : decode cX6_counts 6 = .ok (.iload_n 1, 1) := dk_27 (dk_at dksX6_counts_0 6 rfl rfl)
theorem dX6_counts_7 : decode cX6_counts 7 = .ok (.iadd, 1) := dk_96 (dk_at dksX6_counts_0 7 rfl rfl)
theorem dX6_counts_8 : decode cX6_counts 8 = .ok (.dup2, 1) := dk_92 (dk_at dksX6_counts_0 8 rfl rfl)
theorem dX6_counts_9 : decode cX6_counts 9 = .ok (.iaload, 1) := dk_46 (dk_at dksX6_counts_0 9 rfl rfl)
theorem dX6_counts_10 : decode cX6_counts 10 = .ok (.iload_n 2, 1) := dk_28 (dk_at dksX6_counts_0 10 rfl rfl)
theorem dX6_counts_11 : decode cX6_counts 11 = .ok (.iadd, 1) := dk_96 (dk_at dksX6_counts_0 11 rfl rfl)
theorem dX6_counts_12 : decode cX6_counts 12 = .ok (.iastore, 1) := dk_79 (dk_at dksX6_counts_0 12 rfl rfl)
theorem dX6_counts_13 : decode cX6_counts 13 = .ok (.return_, 1) := dk_177 (dk_at dksX6_counts_0 13 rfl rfl)
abbrev cX6_ticksMany : ByteArray := prog_19_method_31_code
def yX6_ticksMany : MethodName := ⟨RX6, "ticksMany", "(I)I"⟩
def dkwX6_ticksMany_1 : List UInt8 := [42, 3, 182, 0, 133, 100, 172]
abbrev dktX6_ticksMany_1 : List UInt8 := dkwX6_ticksMany_1 ++ []
def dkwX6_ticksMany_0 : List UInt8 := [42, 3, 182, 0, 133, 61, 3, 62, 29, 27, 162, 0, 13, 42, 182, 0, 136, 132, 3, 1, 167, 255, 244, 28]
abbrev dktX6_ticksMany_0 : List UInt8 := dkwX6_ticksMany_0 ++ dktX6_ticksMany_1
theorem dksX6_ticksMany_0 : cX6_ticksMany.data.toList.drop 0 = dktX6_ticksMany_0 := by decide +kernel
theorem dksX6_ticksMany_1 : cX6_ticksMany.data.toList.drop 24 = dktX6_ticksMany_1 := dk_seg dksX6_ticksMany_0 24 rfl rfl
theorem dX6_ticksMany_0 : decode cX6_ticksMany 0 = .ok (.aload_n 0, 1) := dk_42 (dk_at dksX6_ticksMany_0 0 rfl rfl)
theorem dX6_ticksMany_1 : decode cX6_ticksMany 1 = .ok (.iconst 0, 1) := dk_3 (dk_at dksX6_ticksMany_0 1 rfl rfl)
theorem dX6_ticksMany_2 : decode cX6_ticksMany 2 = .ok (.invokevirtual 133, 3) := dk_182 0 133 (dk_at dksX6_ticksMany_0 2 rfl rfl)
theorem dX6_ticksMany_5 : decode cX6_ticksMany 5 = .ok (.istore_n 2, 1) := dk_61 (dk_at dksX6_ticksMany_0 5 rfl rfl)
theorem dX6_ticksMany_6 : decode cX6_ticksMany 6 = .ok (.iconst 0, 1) := dk_3 (dk_at dksX6_ticksMany_0 6 rfl rfl)
theorem dX6_ticksMany_7 : decode cX6_ticksMany 7 = .ok (.istore_n 3, 1) := dk_62 (dk_at dksX6_ticksMany_0 7 rfl rfl)
theorem dX6_ticksMany_8 : decode cX6_ticksMany 8 = .ok (.iload_n 3, 1) := dk_29 (dk_at dksX6_ticksMany_0 8 rfl rfl)
theorem dX6_ticksMany_9 : decode cX6_ticksMany 9 = .ok (.iload_n 1, 1) := dk_27 (dk_at dksX6_ticksMany_0 9 rfl rfl)
theorem dX6_ticksMany_10 : decode cX6_ticksMany 10 = .ok (.if_icmp .ge 13, 3) := dk_162 0 13 (dk_at dksX6_ticksMany_0 10 rfl rfl)
theorem dX6_ticksMany_13 : decode cX6_ticksMany 13 = .ok (.aload_n 0, 1) := dk_42 (dk_at dksX6_ticksMany_0 13 rfl rfl)
theorem dX6_ticksMany_14 : decode cX6_ticksMany 14 = .ok (.invokevirtual 136, 3) := dk_182 0 136 (dk_at dksX6_ticksMany_0 14 rfl rfl)
theorem dX6_ticksMany_17 : decode cX6_ticksMany 17 = .ok (.iinc 3 1, 3) := dk_132 3 1 (dk_at dksX6_ticksMany_0 17 rfl rfl)
theorem dX6_ticksMany_20 : decode cX6_ticksMany 20 = .ok (.goto (-12), 3) := dk_167 255 244 (dk_at dksX6_ticksMany_0 20 rfl rfl)
theorem dX6_ticksMany_23 : decode cX6_ticksMany 23 = .ok (.iload_n 2, 1) := dk_28 (dk_at dksX6_ticksMany_0 23 rfl rfl)
theorem dX6_ticksMany_24 : decode cX6_ticksMany 24 = .ok (.aload_n 0, 1) := dk_42 (dk_at dksX6_ticksMany_1 0 rfl rfl)
theorem dX6_ticksMany_25 : decode cX6_ticksMany 25 = .ok (.iconst 0, 1) := dk_3 (dk_at dksX6_ticksMany_1 1 rfl rfl)
theorem dX6_ticksMany_26 : decode cX6_ticksMany 26 = .ok (.invokevirtual 133, 3) := dk_182 0 133 (dk_at dksX6_ticksMany_1 2 rfl rfl)
theorem dX6_ticksMany_29 : decode cX6_ticksMany 29 = .ok (.isub, 1) := dk_100 (dk_at dksX6_ticksMany_1 5 rfl rfl)
theorem dX6_ticksMany_30 : decode cX6_ticksMany 30 = .ok (.ireturn, 1) := dk_172 (dk_at dksX6_ticksMany_1 6 rfl rfl)
abbrev cX6_inState : ByteArray := prog_19_method_21_code
def yX6_inState : MethodName := ⟨RX6, "inState", "(I)I"⟩
def dkwX6_inState_1 : List UInt8 := [160, 0, 7, 4, 167, 0, 4, 3, 184, 0, 81, 96, 61, 132, 3, 1, 167, 255, 222, 28, 172]
abbrev dktX6_inState_1 : List UInt8 := dkwX6_inState_1 ++ []
def dkwX6_inState_0 : List UInt8 := [3, 61, 3, 62, 29, 42, 180, 0, 7, 7, 46, 162, 0, 30, 28, 42, 29, 6, 182, 0, 62, 27]
abbrev dktX6_inState_0 : List UInt8 := dkwX6_inState_0 ++ dktX6_inState_1
theorem dksX6_inState_0 : cX6_inState.data.toList.drop 0 = dktX6_inState_0 := by decide +kernel
theorem dksX6_inState_1 : cX6_inState.data.toList.drop 22 = dktX6_inState_1 := dk_seg dksX6_inState_0 22 rfl rfl
theorem dX6_inState_0 : decode cX6_inState 0 = .ok (.iconst 0, 1) := dk_3 (dk_at dksX6_inState_0 0 rfl rfl)
theorem dX6_inState_1 : decode cX6_inState 1 = .ok (.istore_n 2, 1) := dk_61 (dk_at dksX6_inState_0 1 rfl rfl)
theorem dX6_inState_2 : decode cX6_inState 2 = .ok (.iconst 0, 1) := dk_3 (dk_at dksX6_inState_0 2 rfl rfl)
theorem dX6_inState_3 : decode cX6_inState 3 = .ok (.istore_n 3, 1) := dk_62 (dk_at dksX6_inState_0 3 rfl rfl)
theorem dX6_inState_4 : decode cX6_inState 4 = .ok (.iload_n 3, 1) := dk_29 (dk_at dksX6_inState_0 4 rfl rfl)
theorem dX6_inState_5 : decode cX6_inState 5 = .ok (.aload_n 0, 1) := dk_42 (dk_at dksX6_inState_0 5 rfl rfl)
theorem dX6_inState_6 : decode cX6_inState 6 = .ok (.getfield 7, 3) := dk_180 0 7 (dk_at dksX6_inState_0 6 rfl rfl)
theorem dX6_inState_9 : decode cX6_inState 9 = .ok (.iconst 4, 1) := dk_7 (dk_at dksX6_inState_0 9 rfl rfl)
theorem dX6_inState_10 : decode cX6_inState 10 = .ok (.iaload, 1) := dk_46 (dk_at dksX6_inState_0 10 rfl rfl)
theorem dX6_inState_11 : decode cX6_inState 11 = .ok (.if_icmp .ge 30, 3) := dk_162 0 30 (dk_at dksX6_inState_0 11 rfl rfl)
theorem dX6_inState_14 : decode cX6_inState 14 = .ok (.iload_n 2, 1) := dk_28 (dk_at dksX6_inState_0 14 rfl rfl)
theorem dX6_inState_15 : decode cX6_inState 15 = .ok (.aload_n 0, 1) := dk_42 (dk_at dksX6_inState_0 15 rfl rfl)
theorem dX6_inState_16 : decode cX6_inState 16 = .ok (.iload_n 3, 1) := dk_29 (dk_at dksX6_inState_0 16 rfl rfl)
theorem dX6_inState_17 : decode cX6_inState 17 = .ok (.iconst 3, 1) := dk_6 (dk_at dksX6_inState_0 17 rfl rfl)
theorem dX6_inState_18 : decode cX6_inState 18 = .ok (.invokevirtual 62, 3) := dk_182 0 62 (dk_at dksX6_inState_0 18 rfl rfl)
theorem dX6_inState_21 : decode cX6_inState 21 = .ok (.iload_n 1, 1) := dk_27 (dk_at dksX6_inState_0 21 rfl rfl)
theorem dX6_inState_22 : decode cX6_inState 22 = .ok (.if_icmp .ne 7, 3) := dk_160 0 7 (dk_at dksX6_inState_1 0 rfl rfl)
theorem dX6_inState_25 : decode cX6_inState 25 = .ok (.iconst 1, 1) := dk_4 (dk_at dksX6_inState_1 3 rfl rfl)
theorem dX6_inState_26 : decode cX6_inState 26 = .ok (.goto 4, 3) := dk_167 0 4 (dk_at dksX6_inState_1 4 rfl rfl)
theorem dX6_inState_29 : decode cX6_inState 29 = .ok (.iconst 0, 1) := dk_3 (dk_at dksX6_inState_1 7 rfl rfl)
theorem dX6_inState_30 : decode cX6_inState 30 = .ok (.invokestatic 81, 3) := dk_184 0 81 (dk_at dksX6_inState_1 8 rfl rfl)
theorem dX6_inState_33 : decode cX6_inState 33 = .ok (.iadd, 1) := dk_96 (dk_at dksX6_inState_1 11 rfl rfl)
theorem dX6_inState_34 : decode cX6_inState 34 = .ok (.istore_n 2, 1) := dk_61 (dk_at dksX6_inState_1 12 rfl rfl)
theorem dX6_inState_35 : decode cX6_inState 35 = .ok (.iinc 3 1, 3) := dk_132 3 1 (dk_at dksX6_inState_1 13 rfl rfl)
theorem dX6_inState_38 : decode cX6_inState 38 = .ok (.goto (-34), 3) := dk_167 255 222 (dk_at dksX6_inState_1 16 rfl rfl)
theorem dX6_inState_41 : decode cX6_inState 41 = .ok (.iload_n 2, 1) := dk_28 (dk_at dksX6_inState_1 19 rfl rfl)
theorem dX6_inState_42 : decode cX6_inState 42 = .ok (.ireturn, 1) := dk_172 (dk_at dksX6_inState_1 20 rfl rfl)
abbrev cX6_one : ByteArray := prog_19_method_4_code
def yX6_one : MethodName := ⟨RX6, "one", "(Z)I"⟩
def dkwX6_one_0 : List UInt8 := [26, 153, 0, 7, 4, 167, 0, 4, 3, 172]
abbrev dktX6_one_0 : List UInt8 := dkwX6_one_0 ++ []
theorem dksX6_one_0 : cX6_one.data.toList.drop 0 = dktX6_one_0 := by decide +kernel
theorem dX6_one_0 : decode cX6_one 0 = .ok (.iload_n 0, 1) := dk_26 (dk_at dksX6_one_0 0 rfl rfl)
theorem dX6_one_1 : decode cX6_one 1 = .ok (.ifCond .eq 7, 3) := dk_153 0 7 (dk_at dksX6_one_0 1 rfl rfl)
theorem dX6_one_4 : decode cX6_one 4 = .ok (.iconst 1, 1) := dk_4 (dk_at dksX6_one_0 4 rfl rfl)
theorem dX6_one_5 : decode cX6_one 5 = .ok (.goto 4, 3) := dk_167 0 4 (dk_at dksX6_one_0 5 rfl rfl)
theorem dX6_one_8 : decode cX6_one 8 = .ok (.iconst 0, 1) := dk_3 (dk_at dksX6_one_0 8 rfl rfl)
theorem dX6_one_9 : decode cX6_one 9 = .ok (.ireturn, 1) := dk_172 (dk_at dksX6_one_0 9 rfl rfl)
abbrev cX6_ticksOne : ByteArray := prog_19_method_30_code
def yX6_ticksOne : MethodName := ⟨RX6, "ticksOne", "()V"⟩
def dkwX6_ticksOne_7 : List UInt8 := [182, 0, 130, 132, 2, 1, 167, 255, 228, 132, 1, 1, 167, 255, 210, 177]
abbrev dktX6_ticksOne_7 : List UInt8 := dkwX6_ticksOne_7 ++ []
def dkwX6_ticksOne_6 : List UInt8 := [61, 28, 42, 180, 0, 7, 7, 46, 162, 0, 24, 42, 28, 27, 182, 0, 126, 153, 0, 9, 42, 27, 28]
abbrev dktX6_ticksOne_6 : List UInt8 := dkwX6_ticksOne_6 ++ dktX6_ticksOne_7
def dkwX6_ticksOne_5 : List UInt8 := [42, 27, 182, 0, 123, 132, 1, 1, 167, 255, 217, 3, 60, 27, 42, 180, 0, 7, 6, 46, 162, 0, 42, 3]
abbrev dktX6_ticksOne_5 : List UInt8 := dkwX6_ticksOne_5 ++ dktX6_ticksOne_6
def dkwX6_ticksOne_4 : List UInt8 := [162, 0, 35, 42, 27, 182, 0, 66, 153, 0, 21, 42, 42, 27, 7, 182, 0, 62, 182, 0, 120, 153, 0, 8]
abbrev dktX6_ticksOne_4 : List UInt8 := dkwX6_ticksOne_4 ++ dktX6_ticksOne_5
def dkwX6_ticksOne_3 : List UInt8 := [153, 0, 8, 42, 27, 182, 0, 116, 132, 1, 1, 167, 255, 230, 3, 60, 27, 42, 180, 0, 7, 7, 46]
abbrev dktX6_ticksOne_3 : List UInt8 := dkwX6_ticksOne_3 ++ dktX6_ticksOne_4
def dkwX6_ticksOne_2 : List UInt8 := [132, 1, 1, 167, 255, 225, 3, 60, 27, 42, 180, 0, 7, 7, 46, 162, 0, 22, 42, 27, 182, 0, 66]
abbrev dktX6_ticksOne_2 : List UInt8 := dkwX6_ticksOne_2 ++ dktX6_ticksOne_3
def dkwX6_ticksOne_1 : List UInt8 := [46, 162, 0, 27, 42, 27, 7, 3, 42, 27, 7, 182, 0, 78, 4, 100, 184, 0, 113, 182, 0, 58]
abbrev dktX6_ticksOne_1 : List UInt8 := dkwX6_ticksOne_1 ++ dktX6_ticksOne_2
def dkwX6_ticksOne_0 : List UInt8 := [42, 180, 0, 7, 8, 92, 46, 4, 96, 79, 42, 3, 4, 182, 0, 91, 3, 60, 27, 42, 180, 0, 7, 6]
abbrev dktX6_ticksOne_0 : List UInt8 := dkwX6_ticksOne_0 ++ dktX6_ticksOne_1
theorem dksX6_ticksOne_0 : cX6_ticksOne.data.toList.drop 0 = dktX6_ticksOne_0 := by decide +kernel
theorem dksX6_ticksOne_1 : cX6_ticksOne.data.toList.drop 24 = dktX6_ticksOne_1 := dk_seg dksX6_ticksOne_0 24 rfl rfl
theorem dksX6_ticksOne_2 : cX6_ticksOne.data.toList.drop 46 = dktX6_ticksOne_2 := dk_seg dksX6_ticksOne_1 22 rfl rfl
theorem dksX6_ticksOne_3 : cX6_ticksOne.data.toList.drop 69 = dktX6_ticksOne_3 := dk_seg dksX6_ticksOne_2 23 rfl rfl
theorem dksX6_ticksOne_4 : cX6_ticksOne.data.toList.drop 92 = dktX6_ticksOne_4 := dk_seg dksX6_ticksOne_3 23 rfl rfl
theorem dksX6_ticksOne_5 : cX6_ticksOne.data.toList.drop 116 = dktX6_ticksOne_5 := dk_seg dksX6_ticksOne_4 24 rfl rfl
theorem dksX6_ticksOne_6 : cX6_ticksOne.data.toList.drop 140 = dktX6_ticksOne_6 := dk_seg dksX6_ticksOne_5 24 rfl rfl
theorem dksX6_ticksOne_7 : cX6_ticksOne.data.toList.drop 163 = dktX6_ticksOne_7 := dk_seg dksX6_ticksOne_6 23 rfl rfl
theorem dX6_ticksOne_0 : decode cX6_ticksOne 0 = .ok (.aload_n 0, 1) := dk_42 (dk_at dksX6_ticksOne_0 0 rfl rfl)
theorem dX6_ticksOne_1 : decode cX6_ticksOne 1 = .ok (.getfield 7, 3) := dk_180 0 7 (dk_at dksX6_ticksOne_0 1 rfl rfl)
theorem dX6_ticksOne_4 : decode cX6_ticksOne 4 = .ok (.iconst 5, 1) := dk_8 (dk_at dksX6_ticksOne_0 4 rfl rfl)
theorem dX6_ticksOne_5 : decode cX6_ticksOne 5 = .ok (.dup2, 1) := dk_92 (dk_at dksX6_ticksOne_0 5 rfl rfl)
theorem dX6_ticksOne_6 : decode cX6_ticksOne 6 = .ok (.iaload, 1) := dk_46 (dk_at dksX6_ticksOne_0 6 rfl rfl)
theorem dX6_ticksOne_7 : decode cX6_ticksOne 7 = .ok (.iconst 1, 1) := dk_4 (dk_at dksX6_ticksOne_0 7 rfl rfl)
theorem dX6_ticksOne_8 : decode cX6_ticksOne 8 = .ok (.iadd, 1) := dk_96 (dk_at dksX6_ticksOne_0 8 rfl rfl)
theorem dX6_ticksOne_9 : decode cX6_ticksOne 9 = .ok (.iastore, 1) := dk_79 (dk_at dksX6_ticksOne_0 9 rfl rfl)
theorem dX6_ticksOne_10 : decode cX6_ticksOne 10 = .ok (.aload_n 0, 1) := dk_42 (dk_at dksX6_ticksOne_0 10 rfl rfl)
theorem dX6_ticksOne_11 : decode cX6_ticksOne 11 = .ok (.iconst 0, 1) := dk_3 (dk_at dksX6_ticksOne_0 11 rfl rfl)
theorem dX6_ticksOne_12 : decode cX6_ticksOne 12 = .ok (.iconst 1, 1) := dk_4 (dk_at dksX6_ticksOne_0 12 rfl rfl)
theorem dX6_ticksOne_13 : decode cX6_ticksOne 13 = .ok (.invokevirtual 91, 3) := dk_182 0 91 (dk_at dksX6_ticksOne_0 13 rfl rfl)
theorem dX6_ticksOne_16 : decode cX6_ticksOne 16 = .ok (.iconst 0, 1) := dk_3 (dk_at dksX6_ticksOne_0 16 rfl rfl)
theorem dX6_ticksOne_17 : decode cX6_ticksOne 17 = .ok (.istore_n 1, 1) := dk_60 (dk_at dksX6_ticksOne_0 17 rfl rfl)
theorem dX6_ticksOne_18 : decode cX6_ticksOne 18 = .ok (.iload_n 1, 1) := dk_27 (dk_at dksX6_ticksOne_0 18 rfl rfl)
theorem dX6_ticksOne_19 : decode cX6_ticksOne 19 = .ok (.aload_n 0, 1) := dk_42 (dk_at dksX6_ticksOne_0 19 rfl rfl)
theorem dX6_ticksOne_20 : decode cX6_ticksOne 20 = .ok (.getfield 7, 3) := dk_180 0 7 (dk_at dksX6_ticksOne_0 20 rfl rfl)
theorem dX6_ticksOne_23 : decode cX6_ticksOne 23 = .ok (.iconst 3, 1) := dk_6 (dk_at dksX6_ticksOne_0 23 rfl rfl)
theorem dX6_ticksOne_24 : decode cX6_ticksOne 24 = .ok (.iaload, 1) := dk_46 (dk_at dksX6_ticksOne_1 0 rfl rfl)
theorem dX6_ticksOne_25 : decode cX6_ticksOne 25 = .ok (.if_icmp .ge 27, 3) := dk_162 0 27 (dk_at dksX6_ticksOne_1 1 rfl rfl)
theorem dX6_ticksOne_28 : decode cX6_ticksOne 28 = .ok (.aload_n 0, 1) := dk_42 (dk_at dksX6_ticksOne_1 4 rfl rfl)
theorem dX6_ticksOne_29 : decode cX6_ticksOne 29 = .ok (.iload_n 1, 1) := dk_27 (dk_at dksX6_ticksOne_1 5 rfl rfl)
theorem dX6_ticksOne_30 : decode cX6_ticksOne 30 = .ok (.iconst 4, 1) := dk_7 (dk_at dksX6_ticksOne_1 6 rfl rfl)
theorem dX6_ticksOne_31 : decode cX6_ticksOne 31 = .ok (.iconst 0, 1) := dk_3 (dk_at dksX6_ticksOne_1 7 rfl rfl)
theorem dX6_ticksOne_32 : decode cX6_ticksOne 32 = .ok (.aload_n 0, 1) := dk_42 (dk_at dksX6_ticksOne_1 8 rfl rfl)
theorem dX6_ticksOne_33 : decode cX6_ticksOne 33 = .ok (.iload_n 1, 1) := dk_27 (dk_at dksX6_ticksOne_1 9 rfl rfl)
theorem dX6_ticksOne_34 : decode cX6_ticksOne 34 = .ok (.iconst 4, 1) := dk_7 (dk_at dksX6_ticksOne_1 10 rfl rfl)
theorem dX6_ticksOne_35 : decode cX6_ticksOne 35 = .ok (.invokevirtual 78, 3) := dk_182 0 78 (dk_at dksX6_ticksOne_1 11 rfl rfl)
theorem dX6_ticksOne_38 : decode cX6_ticksOne 38 = .ok (.iconst 1, 1) := dk_4 (dk_at dksX6_ticksOne_1 14 rfl rfl)
theorem dX6_ticksOne_39 : decode cX6_ticksOne 39 = .ok (.isub, 1) := dk_100 (dk_at dksX6_ticksOne_1 15 rfl rfl)
theorem dX6_ticksOne_40 : decode cX6_ticksOne 40 = .ok (.invokestatic 113, 3) := dk_184 0 113 (dk_at dksX6_ticksOne_1 16 rfl rfl)
theorem dX6_ticksOne_43 : decode cX6_ticksOne 43 = .ok (.invokevirtual 58, 3) := dk_182 0 58 (dk_at dksX6_ticksOne_1 19 rfl rfl)
theorem dX6_ticksOne_46 : decode cX6_ticksOne 46 = .ok (.iinc 1 1, 3) := dk_132 1 1 (dk_at dksX6_ticksOne_2 0 rfl rfl)
theorem dX6_ticksOne_49 : decode cX6_ticksOne 49 = .ok (.goto (-31), 3) := dk_167 255 225 (dk_at dksX6_ticksOne_2 3 rfl rfl)
theorem dX6_ticksOne_52 : decode cX6_ticksOne 52 = .ok (.iconst 0, 1) := dk_3 (dk_at dksX6_ticksOne_2 6 rfl rfl)
theorem dX6_ticksOne_53 : decode cX6_ticksOne 53 = .ok (.istore_n 1, 1) := dk_60 (dk_at dksX6_ticksOne_2 7 rfl rfl)
theorem dX6_ticksOne_54 : decode cX6_ticksOne 54 = .ok (.iload_n 1, 1) := dk_27 (dk_at dksX6_ticksOne_2 8 rfl rfl)
theorem dX6_ticksOne_55 : decode cX6_ticksOne 55 = .ok (.aload_n 0, 1) := dk_42 (dk_at dksX6_ticksOne_2 9 rfl rfl)
theorem dX6_ticksOne_56 : decode cX6_ticksOne 56 = .ok (.getfield 7, 3) := dk_180 0 7 (dk_at dksX6_ticksOne_2 10 rfl rfl)
theorem dX6_ticksOne_59 : decode cX6_ticksOne 59 = .ok (.iconst 4, 1) := dk_7 (dk_at dksX6_ticksOne_2 13 rfl rfl)
theorem dX6_ticksOne_60 : decode cX6_ticksOne 60 = .ok (.iaload, 1) := dk_46 (dk_at dksX6_ticksOne_2 14 rfl rfl)
theorem dX6_ticksOne_61 : decode cX6_ticksOne 61 = .ok (.if_icmp .ge 22, 3) := dk_162 0 22 (dk_at dksX6_ticksOne_2 15 rfl rfl)
theorem dX6_ticksOne_64 : decode cX6_ticksOne 64 = .ok (.aload_n 0, 1) := dk_42 (dk_at dksX6_ticksOne_2 18 rfl rfl)
theorem dX6_ticksOne_65 : decode cX6_ticksOne 65 = .ok (.iload_n 1, 1) := dk_27 (dk_at dksX6_ticksOne_2 19 rfl rfl)
theorem dX6_ticksOne_66 : decode cX6_ticksOne 66 = .ok (.invokevirtual 66, 3) := dk_182 0 66 (dk_at dksX6_ticksOne_2 20 rfl rfl)
theorem dX6_ticksOne_69 : decode cX6_ticksOne 69 = .ok (.ifCond .eq 8, 3) := dk_153 0 8 (dk_at dksX6_ticksOne_3 0 rfl rfl)
theorem dX6_ticksOne_72 : decode cX6_ticksOne 72 = .ok (.aload_n 0, 1) := dk_42 (dk_at dksX6_ticksOne_3 3 rfl rfl)
theorem dX6_ticksOne_73 : decode cX6_ticksOne 73 = .ok (.iload_n 1, 1) := dk_27 (dk_at dksX6_ticksOne_3 4 rfl rfl)
theorem dX6_ticksOne_74 : decode cX6_ticksOne 74 = .ok (.invokevirtual 116, 3) := dk_182 0 116 (dk_at dksX6_ticksOne_3 5 rfl rfl)
theorem dX6_ticksOne_77 : decode cX6_ticksOne 77 = .ok (.iinc 1 1, 3) := dk_132 1 1 (dk_at dksX6_ticksOne_3 8 rfl rfl)
theorem dX6_ticksOne_80 : decode cX6_ticksOne 80 = .ok (.goto (-26), 3) := dk_167 255 230 (dk_at dksX6_ticksOne_3 11 rfl rfl)
theorem dX6_ticksOne_83 : decode cX6_ticksOne 83 = .ok (.iconst 0, 1) := dk_3 (dk_at dksX6_ticksOne_3 14 rfl rfl)
theorem dX6_ticksOne_84 : decode cX6_ticksOne 84 = .ok (.istore_n 1, 1) := dk_60 (dk_at dksX6_ticksOne_3 15 rfl rfl)
theorem dX6_ticksOne_85 : decode cX6_ticksOne 85 = .ok (.iload_n 1, 1) := dk_27 (dk_at dksX6_ticksOne_3 16 rfl rfl)
theorem dX6_ticksOne_86 : decode cX6_ticksOne 86 = .ok (.aload_n 0, 1) := dk_42 (dk_at dksX6_ticksOne_3 17 rfl rfl)
theorem dX6_ticksOne_87 : decode cX6_ticksOne 87 = .ok (.getfield 7, 3) := dk_180 0 7 (dk_at dksX6_ticksOne_3 18 rfl rfl)
theorem dX6_ticksOne_90 : decode cX6_ticksOne 90 = .ok (.iconst 4, 1) := dk_7 (dk_at dksX6_ticksOne_3 21 rfl rfl)
theorem dX6_ticksOne_91 : decode cX6_ticksOne 91 = .ok (.iaload, 1) := dk_46 (dk_at dksX6_ticksOne_3 22 rfl rfl)
theorem dX6_ticksOne_92 : decode cX6_ticksOne 92 = .ok (.if_icmp .ge 35, 3) := dk_162 0 35 (dk_at dksX6_ticksOne_4 0 rfl rfl)
theorem dX6_ticksOne_95 : decode cX6_ticksOne 95 = .ok (.aload_n 0, 1) := dk_42 (dk_at dksX6_ticksOne_4 3 rfl rfl)
theorem dX6_ticksOne_96 : decode cX6_ticksOne 96 = .ok (.iload_n 1, 1) := dk_27 (dk_at dksX6_ticksOne_4 4 rfl rfl)
theorem dX6_ticksOne_97 : decode cX6_ticksOne 97 = .ok (.invokevirtual 66, 3) := dk_182 0 66 (dk_at dksX6_ticksOne_4 5 rfl rfl)
theorem dX6_ticksOne_100 : decode cX6_ticksOne 100 = .ok (.ifCond .eq 21, 3) := dk_153 0 21 (dk_at dksX6_ticksOne_4 8 rfl rfl)
theorem dX6_ticksOne_103 : decode cX6_ticksOne 103 = .ok (.aload_n 0, 1) := dk_42 (dk_at dksX6_ticksOne_4 11 rfl rfl)
theorem dX6_ticksOne_104 : decode cX6_ticksOne 104 = .ok (.aload_n 0, 1) := dk_42 (dk_at dksX6_ticksOne_4 12 rfl rfl)
theorem dX6_ticksOne_105 : decode cX6_ticksOne 105 = .ok (.iload_n 1, 1) := dk_27 (dk_at dksX6_ticksOne_4 13 rfl rfl)
theorem dX6_ticksOne_106 : decode cX6_ticksOne 106 = .ok (.iconst 4, 1) := dk_7 (dk_at dksX6_ticksOne_4 14 rfl rfl)
theorem dX6_ticksOne_107 : decode cX6_ticksOne 107 = .ok (.invokevirtual 62, 3) := dk_182 0 62 (dk_at dksX6_ticksOne_4 15 rfl rfl)
theorem dX6_ticksOne_110 : decode cX6_ticksOne 110 = .ok (.invokevirtual 120, 3) := dk_182 0 120 (dk_at dksX6_ticksOne_4 18 rfl rfl)
theorem dX6_ticksOne_113 : decode cX6_ticksOne 113 = .ok (.ifCond .eq 8, 3) := dk_153 0 8 (dk_at dksX6_ticksOne_4 21 rfl rfl)
theorem dX6_ticksOne_116 : decode cX6_ticksOne 116 = .ok (.aload_n 0, 1) := dk_42 (dk_at dksX6_ticksOne_5 0 rfl rfl)
theorem dX6_ticksOne_117 : decode cX6_ticksOne 117 = .ok (.iload_n 1, 1) := dk_27 (dk_at dksX6_ticksOne_5 1 rfl rfl)
theorem dX6_ticksOne_118 : decode cX6_ticksOne 118 = .ok (.invokevirtual 123, 3) := dk_182 0 123 (dk_at dksX6_ticksOne_5 2 rfl rfl)
theorem dX6_ticksOne_121 : decode cX6_ticksOne 121 = .ok (.iinc 1 1, 3) := dk_132 1 1 (dk_at dksX6_ticksOne_5 5 rfl rfl)
theorem dX6_ticksOne_124 : decode cX6_ticksOne 124 = .ok (.goto (-39), 3) := dk_167 255 217 (dk_at dksX6_ticksOne_5 8 rfl rfl)
theorem dX6_ticksOne_127 : decode cX6_ticksOne 127 = .ok (.iconst 0, 1) := dk_3 (dk_at dksX6_ticksOne_5 11 rfl rfl)
theorem dX6_ticksOne_128 : decode cX6_ticksOne 128 = .ok (.istore_n 1, 1) := dk_60 (dk_at dksX6_ticksOne_5 12 rfl rfl)
theorem dX6_ticksOne_129 : decode cX6_ticksOne 129 = .ok (.iload_n 1, 1) := dk_27 (dk_at dksX6_ticksOne_5 13 rfl rfl)
theorem dX6_ticksOne_130 : decode cX6_ticksOne 130 = .ok (.aload_n 0, 1) := dk_42 (dk_at dksX6_ticksOne_5 14 rfl rfl)
theorem dX6_ticksOne_131 : decode cX6_ticksOne 131 = .ok (.getfield 7, 3) := dk_180 0 7 (dk_at dksX6_ticksOne_5 15 rfl rfl)
theorem dX6_ticksOne_134 : decode cX6_ticksOne 134 = .ok (.iconst 3, 1) := dk_6 (dk_at dksX6_ticksOne_5 18 rfl rfl)
theorem dX6_ticksOne_135 : decode cX6_ticksOne 135 = .ok (.iaload, 1) := dk_46 (dk_at dksX6_ticksOne_5 19 rfl rfl)
theorem dX6_ticksOne_136 : decode cX6_ticksOne 136 = .ok (.if_icmp .ge 42, 3) := dk_162 0 42 (dk_at dksX6_ticksOne_5 20 rfl rfl)
theorem dX6_ticksOne_139 : decode cX6_ticksOne 139 = .ok (.iconst 0, 1) := dk_3 (dk_at dksX6_ticksOne_5 23 rfl rfl)
theorem dX6_ticksOne_140 : decode cX6_ticksOne 140 = .ok (.istore_n 2, 1) := dk_61 (dk_at dksX6_ticksOne_6 0 rfl rfl)
theorem dX6_ticksOne_141 : decode cX6_ticksOne 141 = .ok (.iload_n 2, 1) := dk_28 (dk_at dksX6_ticksOne_6 1 rfl rfl)
theorem dX6_ticksOne_142 : decode cX6_ticksOne 142 = .ok (.aload_n 0, 1) := dk_42 (dk_at dksX6_ticksOne_6 2 rfl rfl)
theorem dX6_ticksOne_143 : decode cX6_ticksOne 143 = .ok (.getfield 7, 3) := dk_180 0 7 (dk_at dksX6_ticksOne_6 3 rfl rfl)
theorem dX6_ticksOne_146 : decode cX6_ticksOne 146 = .ok (.iconst 4, 1) := dk_7 (dk_at dksX6_ticksOne_6 6 rfl rfl)
theorem dX6_ticksOne_147 : decode cX6_ticksOne 147 = .ok (.iaload, 1) := dk_46 (dk_at dksX6_ticksOne_6 7 rfl rfl)
theorem dX6_ticksOne_148 : decode cX6_ticksOne 148 = .ok (.if_icmp .ge 24, 3) := dk_162 0 24 (dk_at dksX6_ticksOne_6 8 rfl rfl)
theorem dX6_ticksOne_151 : decode cX6_ticksOne 151 = .ok (.aload_n 0, 1) := dk_42 (dk_at dksX6_ticksOne_6 11 rfl rfl)
theorem dX6_ticksOne_152 : decode cX6_ticksOne 152 = .ok (.iload_n 2, 1) := dk_28 (dk_at dksX6_ticksOne_6 12 rfl rfl)
theorem dX6_ticksOne_153 : decode cX6_ticksOne 153 = .ok (.iload_n 1, 1) := dk_27 (dk_at dksX6_ticksOne_6 13 rfl rfl)
theorem dX6_ticksOne_154 : decode cX6_ticksOne 154 = .ok (.invokevirtual 126, 3) := dk_182 0 126 (dk_at dksX6_ticksOne_6 14 rfl rfl)
theorem dX6_ticksOne_157 : decode cX6_ticksOne 157 = .ok (.ifCond .eq 9, 3) := dk_153 0 9 (dk_at dksX6_ticksOne_6 17 rfl rfl)
theorem dX6_ticksOne_160 : decode cX6_ticksOne 160 = .ok (.aload_n 0, 1) := dk_42 (dk_at dksX6_ticksOne_6 20 rfl rfl)
theorem dX6_ticksOne_161 : decode cX6_ticksOne 161 = .ok (.iload_n 1, 1) := dk_27 (dk_at dksX6_ticksOne_6 21 rfl rfl)
theorem dX6_ticksOne_162 : decode cX6_ticksOne 162 = .ok (.iload_n 2, 1) := dk_28 (dk_at dksX6_ticksOne_6 22 rfl rfl)
theorem dX6_ticksOne_163 : decode cX6_ticksOne 163 = .ok (.invokevirtual 130, 3) := dk_182 0 130 (dk_at dksX6_ticksOne_7 0 rfl rfl)
theorem dX6_ticksOne_166 : decode cX6_ticksOne 166 = .ok (.iinc 2 1, 3) := dk_132 2 1 (dk_at dksX6_ticksOne_7 3 rfl rfl)
theorem dX6_ticksOne_169 : decode cX6_ticksOne 169 = .ok (.goto (-28), 3) := dk_167 255 228 (dk_at dksX6_ticksOne_7 6 rfl rfl)
theorem dX6_ticksOne_172 : decode cX6_ticksOne 172 = .ok (.iinc 1 1, 3) := dk_132 1 1 (dk_at dksX6_ticksOne_7 9 rfl rfl)
theorem dX6_ticksOne_175 : decode cX6_ticksOne 175 = .ok (.goto (-46), 3) := dk_167 255 210 (dk_at dksX6_ticksOne_7 12 rfl rfl)
theorem dX6_ticksOne_178 : decode cX6_ticksOne 178 = .ok (.return_, 1) := dk_177 (dk_at dksX6_ticksOne_7 15 rfl rfl)
abbrev cX6_goes : ByteArray := prog_19_method_24_code
def yX6_goes : MethodName := ⟨RX6, "goes", "(I)V"⟩
def dkwX6_goes_4 : List UInt8 := [177]
abbrev dktX6_goes_4 : List UInt8 := dkwX6_goes_4 ++ []
def dkwX6_goes_3 : List UInt8 := [42, 180, 0, 7, 16, 6, 46, 163, 0, 4, 177, 42, 27, 6, 182, 0, 88, 42, 16, 7, 4, 182, 0, 91]
abbrev dktX6_goes_3 : List UInt8 := dkwX6_goes_3 ++ dktX6_goes_4
def dkwX6_goes_2 : List UInt8 := [158, 0, 4, 177, 42, 27, 5, 42, 27, 5, 182, 0, 62, 4, 96, 182, 0, 85, 42, 27, 5, 182, 0, 62]
abbrev dktX6_goes_2 : List UInt8 := dkwX6_goes_2 ++ dktX6_goes_3
def dkwX6_goes_1 : List UInt8 := [27, 16, 6, 42, 27, 16, 6, 182, 0, 62, 4, 96, 42, 180, 0, 7, 3, 46, 112, 182, 0, 85, 28]
abbrev dktX6_goes_1 : List UInt8 := dkwX6_goes_1 ++ dktX6_goes_2
def dkwX6_goes_0 : List UInt8 := [42, 27, 7, 182, 0, 62, 4, 96, 42, 180, 0, 7, 3, 46, 112, 61, 42, 27, 7, 28, 182, 0, 85, 42]
abbrev dktX6_goes_0 : List UInt8 := dkwX6_goes_0 ++ dktX6_goes_1
theorem dksX6_goes_0 : cX6_goes.data.toList.drop 0 = dktX6_goes_0 := by decide +kernel
theorem dksX6_goes_1 : cX6_goes.data.toList.drop 24 = dktX6_goes_1 := dk_seg dksX6_goes_0 24 rfl rfl
theorem dksX6_goes_2 : cX6_goes.data.toList.drop 47 = dktX6_goes_2 := dk_seg dksX6_goes_1 23 rfl rfl
theorem dksX6_goes_3 : cX6_goes.data.toList.drop 71 = dktX6_goes_3 := dk_seg dksX6_goes_2 24 rfl rfl
theorem dksX6_goes_4 : cX6_goes.data.toList.drop 95 = dktX6_goes_4 := dk_seg dksX6_goes_3 24 rfl rfl
theorem dX6_goes_0 : decode cX6_goes 0 = .ok (.aload_n 0, 1) := dk_42 (dk_at dksX6_goes_0 0 rfl rfl)
theorem dX6_goes_1 : decode cX6_goes 1 = .ok (.iload_n 1, 1) := dk_27 (dk_at dksX6_goes_0 1 rfl rfl)
theorem dX6_goes_2 : decode cX6_goes 2 = .ok (.iconst 4, 1) := dk_7 (dk_at dksX6_goes_0 2 rfl rfl)
theorem dX6_goes_3 : decode cX6_goes 3 = .ok (.invokevirtual 62, 3) := dk_182 0 62 (dk_at dksX6_goes_0 3 rfl rfl)
theorem dX6_goes_6 : decode cX6_goes 6 = .ok (.iconst 1, 1) := dk_4 (dk_at dksX6_goes_0 6 rfl rfl)
theorem dX6_goes_7 : decode cX6_goes 7 = .ok (.iadd, 1) := dk_96 (dk_at dksX6_goes_0 7 rfl rfl)
theorem dX6_goes_8 : decode cX6_goes 8 = .ok (.aload_n 0, 1) := dk_42 (dk_at dksX6_goes_0 8 rfl rfl)
theorem dX6_goes_9 : decode cX6_goes 9 = .ok (.getfield 7, 3) := dk_180 0 7 (dk_at dksX6_goes_0 9 rfl rfl)
theorem dX6_goes_12 : decode cX6_goes 12 = .ok (.iconst 0, 1) := dk_3 (dk_at dksX6_goes_0 12 rfl rfl)
theorem dX6_goes_13 : decode cX6_goes 13 = .ok (.iaload, 1) := dk_46 (dk_at dksX6_goes_0 13 rfl rfl)
theorem dX6_goes_14 : decode cX6_goes 14 = .ok (.irem, 1) := dk_112 (dk_at dksX6_goes_0 14 rfl rfl)
theorem dX6_goes_15 : decode cX6_goes 15 = .ok (.istore_n 2, 1) := dk_61 (dk_at dksX6_goes_0 15 rfl rfl)
theorem dX6_goes_16 : decode cX6_goes 16 = .ok (.aload_n 0, 1) := dk_42 (dk_at dksX6_goes_0 16 rfl rfl)
theorem dX6_goes_17 : decode cX6_goes 17 = .ok (.iload_n 1, 1) := dk_27 (dk_at dksX6_goes_0 17 rfl rfl)
theorem dX6_goes_18 : decode cX6_goes 18 = .ok (.iconst 4, 1) := dk_7 (dk_at dksX6_goes_0 18 rfl rfl)
theorem dX6_goes_19 : decode cX6_goes 19 = .ok (.iload_n 2, 1) := dk_28 (dk_at dksX6_goes_0 19 rfl rfl)
theorem dX6_goes_20 : decode cX6_goes 20 = .ok (.invokevirtual 85, 3) := dk_182 0 85 (dk_at dksX6_goes_0 20 rfl rfl)
theorem dX6_goes_23 : decode cX6_goes 23 = .ok (.aload_n 0, 1) := dk_42 (dk_at dksX6_goes_0 23 rfl rfl)
theorem dX6_goes_24 : decode cX6_goes 24 = .ok (.iload_n 1, 1) := dk_27 (dk_at dksX6_goes_1 0 rfl rfl)
theorem dX6_goes_25 : decode cX6_goes 25 = .ok (.bipush 6, 2) := dk_16 6 (dk_at dksX6_goes_1 1 rfl rfl)
theorem dX6_goes_27 : decode cX6_goes 27 = .ok (.aload_n 0, 1) := dk_42 (dk_at dksX6_goes_1 3 rfl rfl)
theorem dX6_goes_28 : decode cX6_goes 28 = .ok (.iload_n 1, 1) := dk_27 (dk_at dksX6_goes_1 4 rfl rfl)
theorem dX6_goes_29 : decode cX6_goes 29 = .ok (.bipush 6, 2) := dk_16 6 (dk_at dksX6_goes_1 5 rfl rfl)
theorem dX6_goes_31 : decode cX6_goes 31 = .ok (.invokevirtual 62, 3) := dk_182 0 62 (dk_at dksX6_goes_1 7 rfl rfl)
theorem dX6_goes_34 : decode cX6_goes 34 = .ok (.iconst 1, 1) := dk_4 (dk_at dksX6_goes_1 10 rfl rfl)
theorem dX6_goes_35 : decode cX6_goes 35 = .ok (.iadd, 1) := dk_96 (dk_at dksX6_goes_1 11 rfl rfl)
theorem dX6_goes_36 : decode cX6_goes 36 = .ok (.aload_n 0, 1) := dk_42 (dk_at dksX6_goes_1 12 rfl rfl)
theorem dX6_goes_37 : decode cX6_goes 37 = .ok (.getfield 7, 3) := dk_180 0 7 (dk_at dksX6_goes_1 13 rfl rfl)
theorem dX6_goes_40 : decode cX6_goes 40 = .ok (.iconst 0, 1) := dk_3 (dk_at dksX6_goes_1 16 rfl rfl)
theorem dX6_goes_41 : decode cX6_goes 41 = .ok (.iaload, 1) := dk_46 (dk_at dksX6_goes_1 17 rfl rfl)
theorem dX6_goes_42 : decode cX6_goes 42 = .ok (.irem, 1) := dk_112 (dk_at dksX6_goes_1 18 rfl rfl)
theorem dX6_goes_43 : decode cX6_goes 43 = .ok (.invokevirtual 85, 3) := dk_182 0 85 (dk_at dksX6_goes_1 19 rfl rfl)
theorem dX6_goes_46 : decode cX6_goes 46 = .ok (.iload_n 2, 1) := dk_28 (dk_at dksX6_goes_1 22 rfl rfl)
theorem dX6_goes_47 : decode cX6_goes 47 = .ok (.ifCond .le 4, 3) := dk_158 0 4 (dk_at dksX6_goes_2 0 rfl rfl)
theorem dX6_goes_50 : decode cX6_goes 50 = .ok (.return_, 1) := dk_177 (dk_at dksX6_goes_2 3 rfl rfl)
theorem dX6_goes_51 : decode cX6_goes 51 = .ok (.aload_n 0, 1) := dk_42 (dk_at dksX6_goes_2 4 rfl rfl)
theorem dX6_goes_52 : decode cX6_goes 52 = .ok (.iload_n 1, 1) := dk_27 (dk_at dksX6_goes_2 5 rfl rfl)
theorem dX6_goes_53 : decode cX6_goes 53 = .ok (.iconst 2, 1) := dk_5 (dk_at dksX6_goes_2 6 rfl rfl)
theorem dX6_goes_54 : decode cX6_goes 54 = .ok (.aload_n 0, 1) := dk_42 (dk_at dksX6_goes_2 7 rfl rfl)
theorem dX6_goes_55 : decode cX6_goes 55 = .ok (.iload_n 1, 1) := dk_27 (dk_at dksX6_goes_2 8 rfl rfl)
theorem dX6_goes_56 : decode cX6_goes 56 = .ok (.iconst 2, 1) := dk_5 (dk_at dksX6_goes_2 9 rfl rfl)
theorem dX6_goes_57 : decode cX6_goes 57 = .ok (.invokevirtual 62, 3) := dk_182 0 62 (dk_at dksX6_goes_2 10 rfl rfl)
theorem dX6_goes_60 : decode cX6_goes 60 = .ok (.iconst 1, 1) := dk_4 (dk_at dksX6_goes_2 13 rfl rfl)
theorem dX6_goes_61 : decode cX6_goes 61 = .ok (.iadd, 1) := dk_96 (dk_at dksX6_goes_2 14 rfl rfl)
theorem dX6_goes_62 : decode cX6_goes 62 = .ok (.invokevirtual 85, 3) := dk_182 0 85 (dk_at dksX6_goes_2 15 rfl rfl)
theorem dX6_goes_65 : decode cX6_goes 65 = .ok (.aload_n 0, 1) := dk_42 (dk_at dksX6_goes_2 18 rfl rfl)
theorem dX6_goes_66 : decode cX6_goes 66 = .ok (.iload_n 1, 1) := dk_27 (dk_at dksX6_goes_2 19 rfl rfl)
theorem dX6_goes_67 : decode cX6_goes 67 = .ok (.iconst 2, 1) := dk_5 (dk_at dksX6_goes_2 20 rfl rfl)
theorem dX6_goes_68 : decode cX6_goes 68 = .ok (.invokevirtual 62, 3) := dk_182 0 62 (dk_at dksX6_goes_2 21 rfl rfl)
theorem dX6_goes_71 : decode cX6_goes 71 = .ok (.aload_n 0, 1) := dk_42 (dk_at dksX6_goes_3 0 rfl rfl)
theorem dX6_goes_72 : decode cX6_goes 72 = .ok (.getfield 7, 3) := dk_180 0 7 (dk_at dksX6_goes_3 1 rfl rfl)
theorem dX6_goes_75 : decode cX6_goes 75 = .ok (.bipush 6, 2) := dk_16 6 (dk_at dksX6_goes_3 4 rfl rfl)
theorem dX6_goes_77 : decode cX6_goes 77 = .ok (.iaload, 1) := dk_46 (dk_at dksX6_goes_3 6 rfl rfl)
theorem dX6_goes_78 : decode cX6_goes 78 = .ok (.if_icmp .gt 4, 3) := dk_163 0 4 (dk_at dksX6_goes_3 7 rfl rfl)
theorem dX6_goes_81 : decode cX6_goes 81 = .ok (.return_, 1) := dk_177 (dk_at dksX6_goes_3 10 rfl rfl)
theorem dX6_goes_82 : decode cX6_goes 82 = .ok (.aload_n 0, 1) := dk_42 (dk_at dksX6_goes_3 11 rfl rfl)
theorem dX6_goes_83 : decode cX6_goes 83 = .ok (.iload_n 1, 1) := dk_27 (dk_at dksX6_goes_3 12 rfl rfl)
theorem dX6_goes_84 : decode cX6_goes 84 = .ok (.iconst 3, 1) := dk_6 (dk_at dksX6_goes_3 13 rfl rfl)
theorem dX6_goes_85 : decode cX6_goes 85 = .ok (.invokevirtual 88, 3) := dk_182 0 88 (dk_at dksX6_goes_3 14 rfl rfl)
theorem dX6_goes_88 : decode cX6_goes 88 = .ok (.aload_n 0, 1) := dk_42 (dk_at dksX6_goes_3 17 rfl rfl)
theorem dX6_goes_89 : decode cX6_goes 89 = .ok (.bipush 7, 2) := dk_16 7 (dk_at dksX6_goes_3 18 rfl rfl)
theorem dX6_goes_91 : decode cX6_goes 91 = .ok (.iconst 1, 1) := dk_4 (dk_at dksX6_goes_3 20 rfl rfl)
theorem dX6_goes_92 : decode cX6_goes 92 = .ok (.invokevirtual 91, 3) := dk_182 0 91 (dk_at dksX6_goes_3 21 rfl rfl)
theorem dX6_goes_95 : decode cX6_goes 95 = .ok (.return_, 1) := dk_177 (dk_at dksX6_goes_4 0 rfl rfl)
abbrev cX6_leaves : ByteArray := prog_19_method_23_code
def yX6_leaves : MethodName := ⟨RX6, "leaves", "(II)V"⟩
def dkwX6_leaves_0 : List UInt8 := [42, 27, 6, 28, 182, 0, 85, 42, 27, 16, 8, 42, 180, 0, 7, 8, 46, 182, 0, 85, 177]
abbrev dktX6_leaves_0 : List UInt8 := dkwX6_leaves_0 ++ []
theorem dksX6_leaves_0 : cX6_leaves.data.toList.drop 0 = dktX6_leaves_0 := by decide +kernel
theorem dX6_leaves_0 : decode cX6_leaves 0 = .ok (.aload_n 0, 1) := dk_42 (dk_at dksX6_leaves_0 0 rfl rfl)
theorem dX6_leaves_1 : decode cX6_leaves 1 = .ok (.iload_n 1, 1) := dk_27 (dk_at dksX6_leaves_0 1 rfl rfl)
theorem dX6_leaves_2 : decode cX6_leaves 2 = .ok (.iconst 3, 1) := dk_6 (dk_at dksX6_leaves_0 2 rfl rfl)
theorem dX6_leaves_3 : decode cX6_leaves 3 = .ok (.iload_n 2, 1) := dk_28 (dk_at dksX6_leaves_0 3 rfl rfl)
theorem dX6_leaves_4 : decode cX6_leaves 4 = .ok (.invokevirtual 85, 3) := dk_182 0 85 (dk_at dksX6_leaves_0 4 rfl rfl)
theorem dX6_leaves_7 : decode cX6_leaves 7 = .ok (.aload_n 0, 1) := dk_42 (dk_at dksX6_leaves_0 7 rfl rfl)
theorem dX6_leaves_8 : decode cX6_leaves 8 = .ok (.iload_n 1, 1) := dk_27 (dk_at dksX6_leaves_0 8 rfl rfl)
theorem dX6_leaves_9 : decode cX6_leaves 9 = .ok (.bipush 8, 2) := dk_16 8 (dk_at dksX6_leaves_0 9 rfl rfl)
theorem dX6_leaves_11 : decode cX6_leaves 11 = .ok (.aload_n 0, 1) := dk_42 (dk_at dksX6_leaves_0 11 rfl rfl)
theorem dX6_leaves_12 : decode cX6_leaves 12 = .ok (.getfield 7, 3) := dk_180 0 7 (dk_at dksX6_leaves_0 12 rfl rfl)
theorem dX6_leaves_15 : decode cX6_leaves 15 = .ok (.iconst 5, 1) := dk_8 (dk_at dksX6_leaves_0 15 rfl rfl)
theorem dX6_leaves_16 : decode cX6_leaves 16 = .ok (.iaload, 1) := dk_46 (dk_at dksX6_leaves_0 16 rfl rfl)
theorem dX6_leaves_17 : decode cX6_leaves 17 = .ok (.invokevirtual 85, 3) := dk_182 0 85 (dk_at dksX6_leaves_0 17 rfl rfl)
theorem dX6_leaves_20 : decode cX6_leaves 20 = .ok (.return_, 1) := dk_177 (dk_at dksX6_leaves_0 20 rfl rfl)
abbrev cX6_reads : ByteArray := prog_19_method_25_code
def yX6_reads : MethodName := ⟨RX6, "reads", "(I)V"⟩
def dkwX6_reads_3 : List UInt8 := [16, 6, 42, 27, 7, 182, 0, 62, 182, 0, 85, 177]
abbrev dktX6_reads_3 : List UInt8 := dkwX6_reads_3 ++ []
def dkwX6_reads_2 : List UInt8 := [158, 0, 7, 4, 167, 0, 4, 3, 184, 0, 81, 182, 0, 91, 42, 27, 8, 4, 182, 0, 85, 42, 27]
abbrev dktX6_reads_2 : List UInt8 := dkwX6_reads_2 ++ dktX6_reads_3
def dkwX6_reads_1 : List UInt8 := [16, 9, 4, 182, 0, 91, 177, 42, 16, 8, 42, 27, 8, 182, 0, 62, 153, 0, 11, 42, 27, 182, 0, 94]
abbrev dktX6_reads_1 : List UInt8 := dkwX6_reads_1 ++ dktX6_reads_2
def dkwX6_reads_0 : List UInt8 := [42, 27, 4, 182, 0, 62, 158, 0, 25, 42, 27, 4, 42, 27, 4, 182, 0, 62, 4, 100, 182, 0, 85, 42]
abbrev dktX6_reads_0 : List UInt8 := dkwX6_reads_0 ++ dktX6_reads_1
theorem dksX6_reads_0 : cX6_reads.data.toList.drop 0 = dktX6_reads_0 := by decide +kernel
theorem dksX6_reads_1 : cX6_reads.data.toList.drop 24 = dktX6_reads_1 := dk_seg dksX6_reads_0 24 rfl rfl
theorem dksX6_reads_2 : cX6_reads.data.toList.drop 48 = dktX6_reads_2 := dk_seg dksX6_reads_1 24 rfl rfl
theorem dksX6_reads_3 : cX6_reads.data.toList.drop 71 = dktX6_reads_3 := dk_seg dksX6_reads_2 23 rfl rfl
theorem dX6_reads_0 : decode cX6_reads 0 = .ok (.aload_n 0, 1) := dk_42 (dk_at dksX6_reads_0 0 rfl rfl)
theorem dX6_reads_1 : decode cX6_reads 1 = .ok (.iload_n 1, 1) := dk_27 (dk_at dksX6_reads_0 1 rfl rfl)
theorem dX6_reads_2 : decode cX6_reads 2 = .ok (.iconst 1, 1) := dk_4 (dk_at dksX6_reads_0 2 rfl rfl)
theorem dX6_reads_3 : decode cX6_reads 3 = .ok (.invokevirtual 62, 3) := dk_182 0 62 (dk_at dksX6_reads_0 3 rfl rfl)
theorem dX6_reads_6 : decode cX6_reads 6 = .ok (.ifCond .le 25, 3) := dk_158 0 25 (dk_at dksX6_reads_0 6 rfl rfl)
theorem dX6_reads_9 : decode cX6_reads 9 = .ok (.aload_n 0, 1) := dk_42 (dk_at dksX6_reads_0 9 rfl rfl)
theorem dX6_reads_10 : decode cX6_reads 10 = .ok (.iload_n 1, 1) := dk_27 (dk_at dksX6_reads_0 10 rfl rfl)
theorem dX6_reads_11 : decode cX6_reads 11 = .ok (.iconst 1, 1) := dk_4 (dk_at dksX6_reads_0 11 rfl rfl)
theorem dX6_reads_12 : decode cX6_reads 12 = .ok (.aload_n 0, 1) := dk_42 (dk_at dksX6_reads_0 12 rfl rfl)
theorem dX6_reads_13 : decode cX6_reads 13 = .ok (.iload_n 1, 1) := dk_27 (dk_at dksX6_reads_0 13 rfl rfl)
theorem dX6_reads_14 : decode cX6_reads 14 = .ok (.iconst 1, 1) := dk_4 (dk_at dksX6_reads_0 14 rfl rfl)
theorem dX6_reads_15 : decode cX6_reads 15 = .ok (.invokevirtual 62, 3) := dk_182 0 62 (dk_at dksX6_reads_0 15 rfl rfl)
theorem dX6_reads_18 : decode cX6_reads 18 = .ok (.iconst 1, 1) := dk_4 (dk_at dksX6_reads_0 18 rfl rfl)
theorem dX6_reads_19 : decode cX6_reads 19 = .ok (.isub, 1) := dk_100 (dk_at dksX6_reads_0 19 rfl rfl)
theorem dX6_reads_20 : decode cX6_reads 20 = .ok (.invokevirtual 85, 3) := dk_182 0 85 (dk_at dksX6_reads_0 20 rfl rfl)
theorem dX6_reads_23 : decode cX6_reads 23 = .ok (.aload_n 0, 1) := dk_42 (dk_at dksX6_reads_0 23 rfl rfl)
theorem dX6_reads_24 : decode cX6_reads 24 = .ok (.bipush 9, 2) := dk_16 9 (dk_at dksX6_reads_1 0 rfl rfl)
theorem dX6_reads_26 : decode cX6_reads 26 = .ok (.iconst 1, 1) := dk_4 (dk_at dksX6_reads_1 2 rfl rfl)
theorem dX6_reads_27 : decode cX6_reads 27 = .ok (.invokevirtual 91, 3) := dk_182 0 91 (dk_at dksX6_reads_1 3 rfl rfl)
theorem dX6_reads_30 : decode cX6_reads 30 = .ok (.return_, 1) := dk_177 (dk_at dksX6_reads_1 6 rfl rfl)
theorem dX6_reads_31 : decode cX6_reads 31 = .ok (.aload_n 0, 1) := dk_42 (dk_at dksX6_reads_1 7 rfl rfl)
theorem dX6_reads_32 : decode cX6_reads 32 = .ok (.bipush 8, 2) := dk_16 8 (dk_at dksX6_reads_1 8 rfl rfl)
theorem dX6_reads_34 : decode cX6_reads 34 = .ok (.aload_n 0, 1) := dk_42 (dk_at dksX6_reads_1 10 rfl rfl)
theorem dX6_reads_35 : decode cX6_reads 35 = .ok (.iload_n 1, 1) := dk_27 (dk_at dksX6_reads_1 11 rfl rfl)
theorem dX6_reads_36 : decode cX6_reads 36 = .ok (.iconst 5, 1) := dk_8 (dk_at dksX6_reads_1 12 rfl rfl)
theorem dX6_reads_37 : decode cX6_reads 37 = .ok (.invokevirtual 62, 3) := dk_182 0 62 (dk_at dksX6_reads_1 13 rfl rfl)
theorem dX6_reads_40 : decode cX6_reads 40 = .ok (.ifCond .eq 11, 3) := dk_153 0 11 (dk_at dksX6_reads_1 16 rfl rfl)
theorem dX6_reads_43 : decode cX6_reads 43 = .ok (.aload_n 0, 1) := dk_42 (dk_at dksX6_reads_1 19 rfl rfl)
theorem dX6_reads_44 : decode cX6_reads 44 = .ok (.iload_n 1, 1) := dk_27 (dk_at dksX6_reads_1 20 rfl rfl)
theorem dX6_reads_45 : decode cX6_reads 45 = .ok (.invokevirtual 94, 3) := dk_182 0 94 (dk_at dksX6_reads_1 21 rfl rfl)
theorem dX6_reads_48 : decode cX6_reads 48 = .ok (.ifCond .le 7, 3) := dk_158 0 7 (dk_at dksX6_reads_2 0 rfl rfl)
theorem dX6_reads_51 : decode cX6_reads 51 = .ok (.iconst 1, 1) := dk_4 (dk_at dksX6_reads_2 3 rfl rfl)
theorem dX6_reads_52 : decode cX6_reads 52 = .ok (.goto 4, 3) := dk_167 0 4 (dk_at dksX6_reads_2 4 rfl rfl)
theorem dX6_reads_55 : decode cX6_reads 55 = .ok (.iconst 0, 1) := dk_3 (dk_at dksX6_reads_2 7 rfl rfl)
theorem dX6_reads_56 : decode cX6_reads 56 = .ok (.invokestatic 81, 3) := dk_184 0 81 (dk_at dksX6_reads_2 8 rfl rfl)
theorem dX6_reads_59 : decode cX6_reads 59 = .ok (.invokevirtual 91, 3) := dk_182 0 91 (dk_at dksX6_reads_2 11 rfl rfl)
theorem dX6_reads_62 : decode cX6_reads 62 = .ok (.aload_n 0, 1) := dk_42 (dk_at dksX6_reads_2 14 rfl rfl)
theorem dX6_reads_63 : decode cX6_reads 63 = .ok (.iload_n 1, 1) := dk_27 (dk_at dksX6_reads_2 15 rfl rfl)
theorem dX6_reads_64 : decode cX6_reads 64 = .ok (.iconst 5, 1) := dk_8 (dk_at dksX6_reads_2 16 rfl rfl)
theorem dX6_reads_65 : decode cX6_reads 65 = .ok (.iconst 1, 1) := dk_4 (dk_at dksX6_reads_2 17 rfl rfl)
theorem dX6_reads_66 : decode cX6_reads 66 = .ok (.invokevirtual 85, 3) := dk_182 0 85 (dk_at dksX6_reads_2 18 rfl rfl)
theorem dX6_reads_69 : decode cX6_reads 69 = .ok (.aload_n 0, 1) := dk_42 (dk_at dksX6_reads_2 21 rfl rfl)
theorem dX6_reads_70 : decode cX6_reads 70 = .ok (.iload_n 1, 1) := dk_27 (dk_at dksX6_reads_2 22 rfl rfl)
theorem dX6_reads_71 : decode cX6_reads 71 = .ok (.bipush 6, 2) := dk_16 6 (dk_at dksX6_reads_3 0 rfl rfl)
theorem dX6_reads_73 : decode cX6_reads 73 = .ok (.aload_n 0, 1) := dk_42 (dk_at dksX6_reads_3 2 rfl rfl)
theorem dX6_reads_74 : decode cX6_reads 74 = .ok (.iload_n 1, 1) := dk_27 (dk_at dksX6_reads_3 3 rfl rfl)
theorem dX6_reads_75 : decode cX6_reads 75 = .ok (.iconst 4, 1) := dk_7 (dk_at dksX6_reads_3 4 rfl rfl)
theorem dX6_reads_76 : decode cX6_reads 76 = .ok (.invokevirtual 62, 3) := dk_182 0 62 (dk_at dksX6_reads_3 5 rfl rfl)
theorem dX6_reads_79 : decode cX6_reads 79 = .ok (.invokevirtual 85, 3) := dk_182 0 85 (dk_at dksX6_reads_3 8 rfl rfl)
theorem dX6_reads_82 : decode cX6_reads 82 = .ok (.return_, 1) := dk_177 (dk_at dksX6_reads_3 11 rfl rfl)
abbrev cX6_lagOf : ByteArray := prog_19_method_17_code
def yX6_lagOf : MethodName := ⟨RX6, "lagOf", "(I)I"⟩
def dkwX6_lagOf_0 : List UInt8 := [42, 42, 27, 7, 182, 0, 62, 42, 27, 16, 6, 182, 0, 62, 182, 0, 75, 172]
abbrev dktX6_lagOf_0 : List UInt8 := dkwX6_lagOf_0 ++ []
theorem dksX6_lagOf_0 : cX6_lagOf.data.toList.drop 0 = dktX6_lagOf_0 := by decide +kernel
theorem dX6_lagOf_0 : decode cX6_lagOf 0 = .ok (.aload_n 0, 1) := dk_42 (dk_at dksX6_lagOf_0 0 rfl rfl)
theorem dX6_lagOf_1 : decode cX6_lagOf 1 = .ok (.aload_n 0, 1) := dk_42 (dk_at dksX6_lagOf_0 1 rfl rfl)
theorem dX6_lagOf_2 : decode cX6_lagOf 2 = .ok (.iload_n 1, 1) := dk_27 (dk_at dksX6_lagOf_0 2 rfl rfl)
theorem dX6_lagOf_3 : decode cX6_lagOf 3 = .ok (.iconst 4, 1) := dk_7 (dk_at dksX6_lagOf_0 3 rfl rfl)
theorem dX6_lagOf_4 : decode cX6_lagOf 4 = .ok (.invokevirtual 62, 3) := dk_182 0 62 (dk_at dksX6_lagOf_0 4 rfl rfl)
theorem dX6_lagOf_7 : decode cX6_lagOf 7 = .ok (.aload_n 0, 1) := dk_42 (dk_at dksX6_lagOf_0 7 rfl rfl)
theorem dX6_lagOf_8 : decode cX6_lagOf 8 = .ok (.iload_n 1, 1) := dk_27 (dk_at dksX6_lagOf_0 8 rfl rfl)
theorem dX6_lagOf_9 : decode cX6_lagOf 9 = .ok (.bipush 6, 2) := dk_16 6 (dk_at dksX6_lagOf_0 9 rfl rfl)
theorem dX6_lagOf_11 : decode cX6_lagOf 11 = .ok (.invokevirtual 62, 3) := dk_182 0 62 (dk_at dksX6_lagOf_0 11 rfl rfl)
theorem dX6_lagOf_14 : decode cX6_lagOf 14 = .ok (.invokevirtual 75, 3) := dk_182 0 75 (dk_at dksX6_lagOf_0 14 rfl rfl)
theorem dX6_lagOf_17 : decode cX6_lagOf 17 = .ok (.ireturn, 1) := dk_172 (dk_at dksX6_lagOf_0 17 rfl rfl)
abbrev cX6_stepsFrom : ByteArray := prog_19_method_16_code
def yX6_stepsFrom : MethodName := ⟨RX6, "stepsFrom", "(II)I"⟩
def dkwX6_stepsFrom_0 : List UInt8 := [28, 27, 100, 42, 180, 0, 7, 3, 46, 184, 0, 70, 172]
abbrev dktX6_stepsFrom_0 : List UInt8 := dkwX6_stepsFrom_0 ++ []
theorem dksX6_stepsFrom_0 : cX6_stepsFrom.data.toList.drop 0 = dktX6_stepsFrom_0 := by decide +kernel
theorem dX6_stepsFrom_0 : decode cX6_stepsFrom 0 = .ok (.iload_n 2, 1) := dk_28 (dk_at dksX6_stepsFrom_0 0 rfl rfl)
theorem dX6_stepsFrom_1 : decode cX6_stepsFrom 1 = .ok (.iload_n 1, 1) := dk_27 (dk_at dksX6_stepsFrom_0 1 rfl rfl)
theorem dX6_stepsFrom_2 : decode cX6_stepsFrom 2 = .ok (.isub, 1) := dk_100 (dk_at dksX6_stepsFrom_0 2 rfl rfl)
theorem dX6_stepsFrom_3 : decode cX6_stepsFrom 3 = .ok (.aload_n 0, 1) := dk_42 (dk_at dksX6_stepsFrom_0 3 rfl rfl)
theorem dX6_stepsFrom_4 : decode cX6_stepsFrom 4 = .ok (.getfield 7, 3) := dk_180 0 7 (dk_at dksX6_stepsFrom_0 4 rfl rfl)
theorem dX6_stepsFrom_7 : decode cX6_stepsFrom 7 = .ok (.iconst 0, 1) := dk_3 (dk_at dksX6_stepsFrom_0 7 rfl rfl)
theorem dX6_stepsFrom_8 : decode cX6_stepsFrom 8 = .ok (.iaload, 1) := dk_46 (dk_at dksX6_stepsFrom_0 8 rfl rfl)
theorem dX6_stepsFrom_9 : decode cX6_stepsFrom 9 = .ok (.invokestatic 70, 3) := dk_184 0 70 (dk_at dksX6_stepsFrom_0 9 rfl rfl)
theorem dX6_stepsFrom_12 : decode cX6_stepsFrom 12 = .ok (.ireturn, 1) := dk_172 (dk_at dksX6_stepsFrom_0 12 rfl rfl)
abbrev cX6_isLooked : ByteArray := prog_19_method_28_code
def yX6_isLooked : MethodName := ⟨RX6, "isLooked", "(II)Z"⟩
def dkwX6_isLooked_2 : List UInt8 := [172]
abbrev dktX6_isLooked_2 : List UInt8 := dkwX6_isLooked_2 ++ []
def dkwX6_isLooked_1 : List UInt8 := [160, 0, 23, 42, 27, 16, 6, 182, 0, 62, 42, 28, 3, 182, 0, 78, 160, 0, 7, 4, 167, 0, 4, 3]
abbrev dktX6_isLooked_1 : List UInt8 := dkwX6_isLooked_1 ++ dktX6_isLooked_2
def dkwX6_isLooked_0 : List UInt8 := [42, 27, 182, 0, 104, 153, 0, 42, 42, 27, 4, 182, 0, 62, 154, 0, 33, 42, 27, 3, 182, 0, 62, 28]
abbrev dktX6_isLooked_0 : List UInt8 := dkwX6_isLooked_0 ++ dktX6_isLooked_1
theorem dksX6_isLooked_0 : cX6_isLooked.data.toList.drop 0 = dktX6_isLooked_0 := by decide +kernel
theorem dksX6_isLooked_1 : cX6_isLooked.data.toList.drop 24 = dktX6_isLooked_1 := dk_seg dksX6_isLooked_0 24 rfl rfl
theorem dksX6_isLooked_2 : cX6_isLooked.data.toList.drop 48 = dktX6_isLooked_2 := dk_seg dksX6_isLooked_1 24 rfl rfl
theorem dX6_isLooked_0 : decode cX6_isLooked 0 = .ok (.aload_n 0, 1) := dk_42 (dk_at dksX6_isLooked_0 0 rfl rfl)
theorem dX6_isLooked_1 : decode cX6_isLooked 1 = .ok (.iload_n 1, 1) := dk_27 (dk_at dksX6_isLooked_0 1 rfl rfl)
theorem dX6_isLooked_2 : decode cX6_isLooked 2 = .ok (.invokevirtual 104, 3) := dk_182 0 104 (dk_at dksX6_isLooked_0 2 rfl rfl)
theorem dX6_isLooked_5 : decode cX6_isLooked 5 = .ok (.ifCond .eq 42, 3) := dk_153 0 42 (dk_at dksX6_isLooked_0 5 rfl rfl)
theorem dX6_isLooked_8 : decode cX6_isLooked 8 = .ok (.aload_n 0, 1) := dk_42 (dk_at dksX6_isLooked_0 8 rfl rfl)
theorem dX6_isLooked_9 : decode cX6_isLooked 9 = .ok (.iload_n 1, 1) := dk_27 (dk_at dksX6_isLooked_0 9 rfl rfl)
theorem dX6_isLooked_10 : decode cX6_isLooked 10 = .ok (.iconst 1, 1) := dk_4 (dk_at dksX6_isLooked_0 10 rfl rfl)
theorem dX6_isLooked_11 : decode cX6_isLooked 11 = .ok (.invokevirtual 62, 3) := dk_182 0 62 (dk_at dksX6_isLooked_0 11 rfl rfl)
theorem dX6_isLooked_14 : decode cX6_isLooked 14 = .ok (.ifCond .ne 33, 3) := dk_154 0 33 (dk_at dksX6_isLooked_0 14 rfl rfl)
theorem dX6_isLooked_17 : decode cX6_isLooked 17 = .ok (.aload_n 0, 1) := dk_42 (dk_at dksX6_isLooked_0 17 rfl rfl)
theorem dX6_isLooked_18 : decode cX6_isLooked 18 = .ok (.iload_n 1, 1) := dk_27 (dk_at dksX6_isLooked_0 18 rfl rfl)
theorem dX6_isLooked_19 : decode cX6_isLooked 19 = .ok (.iconst 0, 1) := dk_3 (dk_at dksX6_isLooked_0 19 rfl rfl)
theorem dX6_isLooked_20 : decode cX6_isLooked 20 = .ok (.invokevirtual 62, 3) := dk_182 0 62 (dk_at dksX6_isLooked_0 20 rfl rfl)
theorem dX6_isLooked_23 : decode cX6_isLooked 23 = .ok (.iload_n 2, 1) := dk_28 (dk_at dksX6_isLooked_0 23 rfl rfl)
theorem dX6_isLooked_24 : decode cX6_isLooked 24 = .ok (.if_icmp .ne 23, 3) := dk_160 0 23 (dk_at dksX6_isLooked_1 0 rfl rfl)
theorem dX6_isLooked_27 : decode cX6_isLooked 27 = .ok (.aload_n 0, 1) := dk_42 (dk_at dksX6_isLooked_1 3 rfl rfl)
theorem dX6_isLooked_28 : decode cX6_isLooked 28 = .ok (.iload_n 1, 1) := dk_27 (dk_at dksX6_isLooked_1 4 rfl rfl)
theorem dX6_isLooked_29 : decode cX6_isLooked 29 = .ok (.bipush 6, 2) := dk_16 6 (dk_at dksX6_isLooked_1 5 rfl rfl)
theorem dX6_isLooked_31 : decode cX6_isLooked 31 = .ok (.invokevirtual 62, 3) := dk_182 0 62 (dk_at dksX6_isLooked_1 7 rfl rfl)
theorem dX6_isLooked_34 : decode cX6_isLooked 34 = .ok (.aload_n 0, 1) := dk_42 (dk_at dksX6_isLooked_1 10 rfl rfl)
theorem dX6_isLooked_35 : decode cX6_isLooked 35 = .ok (.iload_n 2, 1) := dk_28 (dk_at dksX6_isLooked_1 11 rfl rfl)
theorem dX6_isLooked_36 : decode cX6_isLooked 36 = .ok (.iconst 0, 1) := dk_3 (dk_at dksX6_isLooked_1 12 rfl rfl)
theorem dX6_isLooked_37 : decode cX6_isLooked 37 = .ok (.invokevirtual 78, 3) := dk_182 0 78 (dk_at dksX6_isLooked_1 13 rfl rfl)
theorem dX6_isLooked_40 : decode cX6_isLooked 40 = .ok (.if_icmp .ne 7, 3) := dk_160 0 7 (dk_at dksX6_isLooked_1 16 rfl rfl)
theorem dX6_isLooked_43 : decode cX6_isLooked 43 = .ok (.iconst 1, 1) := dk_4 (dk_at dksX6_isLooked_1 19 rfl rfl)
theorem dX6_isLooked_44 : decode cX6_isLooked 44 = .ok (.goto 4, 3) := dk_167 0 4 (dk_at dksX6_isLooked_1 20 rfl rfl)
theorem dX6_isLooked_47 : decode cX6_isLooked 47 = .ok (.iconst 0, 1) := dk_3 (dk_at dksX6_isLooked_1 23 rfl rfl)
theorem dX6_isLooked_48 : decode cX6_isLooked 48 = .ok (.ireturn, 1) := dk_172 (dk_at dksX6_isLooked_2 0 rfl rfl)
abbrev cX6_isTracked : ByteArray := prog_19_method_15_code
def yX6_isTracked : MethodName := ⟨RX6, "isTracked", "(I)Z"⟩
def dkwX6_isTracked_0 : List UInt8 := [42, 27, 182, 0, 66, 153, 0, 17, 42, 27, 8, 182, 0, 62, 4, 160, 0, 7, 4, 167, 0, 4, 3, 172]
abbrev dktX6_isTracked_0 : List UInt8 := dkwX6_isTracked_0 ++ []
theorem dksX6_isTracked_0 : cX6_isTracked.data.toList.drop 0 = dktX6_isTracked_0 := by decide +kernel
theorem dX6_isTracked_0 : decode cX6_isTracked 0 = .ok (.aload_n 0, 1) := dk_42 (dk_at dksX6_isTracked_0 0 rfl rfl)
theorem dX6_isTracked_1 : decode cX6_isTracked 1 = .ok (.iload_n 1, 1) := dk_27 (dk_at dksX6_isTracked_0 1 rfl rfl)
theorem dX6_isTracked_2 : decode cX6_isTracked 2 = .ok (.invokevirtual 66, 3) := dk_182 0 66 (dk_at dksX6_isTracked_0 2 rfl rfl)
theorem dX6_isTracked_5 : decode cX6_isTracked 5 = .ok (.ifCond .eq 17, 3) := dk_153 0 17 (dk_at dksX6_isTracked_0 5 rfl rfl)
theorem dX6_isTracked_8 : decode cX6_isTracked 8 = .ok (.aload_n 0, 1) := dk_42 (dk_at dksX6_isTracked_0 8 rfl rfl)
theorem dX6_isTracked_9 : decode cX6_isTracked 9 = .ok (.iload_n 1, 1) := dk_27 (dk_at dksX6_isTracked_0 9 rfl rfl)
theorem dX6_isTracked_10 : decode cX6_isTracked 10 = .ok (.iconst 5, 1) := dk_8 (dk_at dksX6_isTracked_0 10 rfl rfl)
theorem dX6_isTracked_11 : decode cX6_isTracked 11 = .ok (.invokevirtual 62, 3) := dk_182 0 62 (dk_at dksX6_isTracked_0 11 rfl rfl)
theorem dX6_isTracked_14 : decode cX6_isTracked 14 = .ok (.iconst 1, 1) := dk_4 (dk_at dksX6_isTracked_0 14 rfl rfl)
theorem dX6_isTracked_15 : decode cX6_isTracked 15 = .ok (.if_icmp .ne 7, 3) := dk_160 0 7 (dk_at dksX6_isTracked_0 15 rfl rfl)
theorem dX6_isTracked_18 : decode cX6_isTracked 18 = .ok (.iconst 1, 1) := dk_4 (dk_at dksX6_isTracked_0 18 rfl rfl)
theorem dX6_isTracked_19 : decode cX6_isTracked 19 = .ok (.goto 4, 3) := dk_167 0 4 (dk_at dksX6_isTracked_0 19 rfl rfl)
theorem dX6_isTracked_22 : decode cX6_isTracked 22 = .ok (.iconst 0, 1) := dk_3 (dk_at dksX6_isTracked_0 22 rfl rfl)
theorem dX6_isTracked_23 : decode cX6_isTracked 23 = .ok (.ireturn, 1) := dk_172 (dk_at dksX6_isTracked_0 23 rfl rfl)
abbrev cX6_looks : ByteArray := prog_19_method_29_code
def yX6_looks : MethodName := ⟨RX6, "looks", "(II)V"⟩
def dkwX6_looks_1 : List UInt8 := [42, 8, 4, 182, 0, 91, 177, 42, 27, 28, 182, 0, 110, 177]
abbrev dktX6_looks_1 : List UInt8 := dkwX6_looks_1 ++ []
def dkwX6_looks_0 : List UInt8 := [42, 27, 182, 0, 107, 153, 0, 10, 42, 7, 4, 182, 0, 91, 177, 42, 27, 7, 182, 0, 78, 158, 0, 10]
abbrev dktX6_looks_0 : List UInt8 := dkwX6_looks_0 ++ dktX6_looks_1
theorem dksX6_looks_0 : cX6_looks.data.toList.drop 0 = dktX6_looks_0 := by decide +kernel
theorem dksX6_looks_1 : cX6_looks.data.toList.drop 24 = dktX6_looks_1 := dk_seg dksX6_looks_0 24 rfl rfl
theorem dX6_looks_0 : decode cX6_looks 0 = .ok (.aload_n 0, 1) := dk_42 (dk_at dksX6_looks_0 0 rfl rfl)
theorem dX6_looks_1 : decode cX6_looks 1 = .ok (.iload_n 1, 1) := dk_27 (dk_at dksX6_looks_0 1 rfl rfl)
theorem dX6_looks_2 : decode cX6_looks 2 = .ok (.invokevirtual 107, 3) := dk_182 0 107 (dk_at dksX6_looks_0 2 rfl rfl)
theorem dX6_looks_5 : decode cX6_looks 5 = .ok (.ifCond .eq 10, 3) := dk_153 0 10 (dk_at dksX6_looks_0 5 rfl rfl)
theorem dX6_looks_8 : decode cX6_looks 8 = .ok (.aload_n 0, 1) := dk_42 (dk_at dksX6_looks_0 8 rfl rfl)
theorem dX6_looks_9 : decode cX6_looks 9 = .ok (.iconst 4, 1) := dk_7 (dk_at dksX6_looks_0 9 rfl rfl)
theorem dX6_looks_10 : decode cX6_looks 10 = .ok (.iconst 1, 1) := dk_4 (dk_at dksX6_looks_0 10 rfl rfl)
theorem dX6_looks_11 : decode cX6_looks 11 = .ok (.invokevirtual 91, 3) := dk_182 0 91 (dk_at dksX6_looks_0 11 rfl rfl)
theorem dX6_looks_14 : decode cX6_looks 14 = .ok (.return_, 1) := dk_177 (dk_at dksX6_looks_0 14 rfl rfl)
theorem dX6_looks_15 : decode cX6_looks 15 = .ok (.aload_n 0, 1) := dk_42 (dk_at dksX6_looks_0 15 rfl rfl)
theorem dX6_looks_16 : decode cX6_looks 16 = .ok (.iload_n 1, 1) := dk_27 (dk_at dksX6_looks_0 16 rfl rfl)
theorem dX6_looks_17 : decode cX6_looks 17 = .ok (.iconst 4, 1) := dk_7 (dk_at dksX6_looks_0 17 rfl rfl)
theorem dX6_looks_18 : decode cX6_looks 18 = .ok (.invokevirtual 78, 3) := dk_182 0 78 (dk_at dksX6_looks_0 18 rfl rfl)
theorem dX6_looks_21 : decode cX6_looks 21 = .ok (.ifCond .le 10, 3) := dk_158 0 10 (dk_at dksX6_looks_0 21 rfl rfl)
theorem dX6_looks_24 : decode cX6_looks 24 = .ok (.aload_n 0, 1) := dk_42 (dk_at dksX6_looks_1 0 rfl rfl)
theorem dX6_looks_25 : decode cX6_looks 25 = .ok (.iconst 5, 1) := dk_8 (dk_at dksX6_looks_1 1 rfl rfl)
theorem dX6_looks_26 : decode cX6_looks 26 = .ok (.iconst 1, 1) := dk_4 (dk_at dksX6_looks_1 2 rfl rfl)
theorem dX6_looks_27 : decode cX6_looks 27 = .ok (.invokevirtual 91, 3) := dk_182 0 91 (dk_at dksX6_looks_1 3 rfl rfl)
theorem dX6_looks_30 : decode cX6_looks 30 = .ok (.return_, 1) := dk_177 (dk_at dksX6_looks_1 6 rfl rfl)
theorem dX6_looks_31 : decode cX6_looks 31 = .ok (.aload_n 0, 1) := dk_42 (dk_at dksX6_looks_1 7 rfl rfl)
theorem dX6_looks_32 : decode cX6_looks 32 = .ok (.iload_n 1, 1) := dk_27 (dk_at dksX6_looks_1 8 rfl rfl)
theorem dX6_looks_33 : decode cX6_looks 33 = .ok (.iload_n 2, 1) := dk_28 (dk_at dksX6_looks_1 9 rfl rfl)
theorem dX6_looks_34 : decode cX6_looks 34 = .ok (.invokevirtual 110, 3) := dk_182 0 110 (dk_at dksX6_looks_1 10 rfl rfl)
theorem dX6_looks_37 : decode cX6_looks 37 = .ok (.return_, 1) := dk_177 (dk_at dksX6_looks_1 13 rfl rfl)
abbrev cX6_isClosed : ByteArray := prog_19_method_22_code
def yX6_isClosed : MethodName := ⟨RX6, "isClosed", "(I)Z"⟩
def dkwX6_isClosed_1 : List UInt8 := [160, 0, 7, 4, 167, 0, 4, 3, 172]
abbrev dktX6_isClosed_1 : List UInt8 := dkwX6_isClosed_1 ++ []
def dkwX6_isClosed_0 : List UInt8 := [42, 27, 8, 182, 0, 78, 153, 0, 19, 42, 27, 16, 6, 182, 0, 78, 42, 27, 4, 182, 0, 78]
abbrev dktX6_isClosed_0 : List UInt8 := dkwX6_isClosed_0 ++ dktX6_isClosed_1
theorem dksX6_isClosed_0 : cX6_isClosed.data.toList.drop 0 = dktX6_isClosed_0 := by decide +kernel
theorem dksX6_isClosed_1 : cX6_isClosed.data.toList.drop 22 = dktX6_isClosed_1 := dk_seg dksX6_isClosed_0 22 rfl rfl
theorem dX6_isClosed_0 : decode cX6_isClosed 0 = .ok (.aload_n 0, 1) := dk_42 (dk_at dksX6_isClosed_0 0 rfl rfl)
theorem dX6_isClosed_1 : decode cX6_isClosed 1 = .ok (.iload_n 1, 1) := dk_27 (dk_at dksX6_isClosed_0 1 rfl rfl)
theorem dX6_isClosed_2 : decode cX6_isClosed 2 = .ok (.iconst 5, 1) := dk_8 (dk_at dksX6_isClosed_0 2 rfl rfl)
theorem dX6_isClosed_3 : decode cX6_isClosed 3 = .ok (.invokevirtual 78, 3) := dk_182 0 78 (dk_at dksX6_isClosed_0 3 rfl rfl)
theorem dX6_isClosed_6 : decode cX6_isClosed 6 = .ok (.ifCond .eq 19, 3) := dk_153 0 19 (dk_at dksX6_isClosed_0 6 rfl rfl)
theorem dX6_isClosed_9 : decode cX6_isClosed 9 = .ok (.aload_n 0, 1) := dk_42 (dk_at dksX6_isClosed_0 9 rfl rfl)
theorem dX6_isClosed_10 : decode cX6_isClosed 10 = .ok (.iload_n 1, 1) := dk_27 (dk_at dksX6_isClosed_0 10 rfl rfl)
theorem dX6_isClosed_11 : decode cX6_isClosed 11 = .ok (.bipush 6, 2) := dk_16 6 (dk_at dksX6_isClosed_0 11 rfl rfl)
theorem dX6_isClosed_13 : decode cX6_isClosed 13 = .ok (.invokevirtual 78, 3) := dk_182 0 78 (dk_at dksX6_isClosed_0 13 rfl rfl)
theorem dX6_isClosed_16 : decode cX6_isClosed 16 = .ok (.aload_n 0, 1) := dk_42 (dk_at dksX6_isClosed_0 16 rfl rfl)
theorem dX6_isClosed_17 : decode cX6_isClosed 17 = .ok (.iload_n 1, 1) := dk_27 (dk_at dksX6_isClosed_0 17 rfl rfl)
theorem dX6_isClosed_18 : decode cX6_isClosed 18 = .ok (.iconst 1, 1) := dk_4 (dk_at dksX6_isClosed_0 18 rfl rfl)
theorem dX6_isClosed_19 : decode cX6_isClosed 19 = .ok (.invokevirtual 78, 3) := dk_182 0 78 (dk_at dksX6_isClosed_0 19 rfl rfl)
theorem dX6_isClosed_22 : decode cX6_isClosed 22 = .ok (.if_icmp .ne 7, 3) := dk_160 0 7 (dk_at dksX6_isClosed_1 0 rfl rfl)
theorem dX6_isClosed_25 : decode cX6_isClosed 25 = .ok (.iconst 1, 1) := dk_4 (dk_at dksX6_isClosed_1 3 rfl rfl)
theorem dX6_isClosed_26 : decode cX6_isClosed 26 = .ok (.goto 4, 3) := dk_167 0 4 (dk_at dksX6_isClosed_1 4 rfl rfl)
theorem dX6_isClosed_29 : decode cX6_isClosed 29 = .ok (.iconst 0, 1) := dk_3 (dk_at dksX6_isClosed_1 7 rfl rfl)
theorem dX6_isClosed_30 : decode cX6_isClosed 30 = .ok (.ireturn, 1) := dk_172 (dk_at dksX6_isClosed_1 8 rfl rfl)
abbrev cX6_fires : ByteArray := prog_19_method_27_code
def yX6_fires : MethodName := ⟨RX6, "fires", "(II)V"⟩
def dkwX6_fires_3 : List UInt8 := [42, 29, 27, 182, 0, 98, 42, 28, 8, 3, 182, 0, 85, 177]
abbrev dktX6_fires_3 : List UInt8 := dkwX6_fires_3 ++ []
def dkwX6_fires_2 : List UInt8 := [42, 16, 6, 29, 2, 160, 0, 7, 4, 167, 0, 4, 3, 184, 0, 81, 182, 0, 91, 29, 2, 159, 0, 9]
abbrev dktX6_fires_2 : List UInt8 := dkwX6_fires_2 ++ dktX6_fires_3
def dkwX6_fires_1 : List UInt8 := [182, 0, 78, 163, 0, 10, 42, 28, 27, 182, 0, 98, 177, 42, 42, 27, 3, 182, 0, 78, 182, 0, 101, 62]
abbrev dktX6_fires_1 : List UInt8 := dkwX6_fires_1 ++ dktX6_fires_2
def dkwX6_fires_0 : List UInt8 := [42, 27, 7, 42, 27, 6, 182, 0, 78, 4, 96, 182, 0, 58, 42, 28, 182, 0, 94, 42, 27, 5]
abbrev dktX6_fires_0 : List UInt8 := dkwX6_fires_0 ++ dktX6_fires_1
theorem dksX6_fires_0 : cX6_fires.data.toList.drop 0 = dktX6_fires_0 := by decide +kernel
theorem dksX6_fires_1 : cX6_fires.data.toList.drop 22 = dktX6_fires_1 := dk_seg dksX6_fires_0 22 rfl rfl
theorem dksX6_fires_2 : cX6_fires.data.toList.drop 46 = dktX6_fires_2 := dk_seg dksX6_fires_1 24 rfl rfl
theorem dksX6_fires_3 : cX6_fires.data.toList.drop 70 = dktX6_fires_3 := dk_seg dksX6_fires_2 24 rfl rfl
theorem dX6_fires_0 : decode cX6_fires 0 = .ok (.aload_n 0, 1) := dk_42 (dk_at dksX6_fires_0 0 rfl rfl)
theorem dX6_fires_1 : decode cX6_fires 1 = .ok (.iload_n 1, 1) := dk_27 (dk_at dksX6_fires_0 1 rfl rfl)
theorem dX6_fires_2 : decode cX6_fires 2 = .ok (.iconst 4, 1) := dk_7 (dk_at dksX6_fires_0 2 rfl rfl)
theorem dX6_fires_3 : decode cX6_fires 3 = .ok (.aload_n 0, 1) := dk_42 (dk_at dksX6_fires_0 3 rfl rfl)
theorem dX6_fires_4 : decode cX6_fires 4 = .ok (.iload_n 1, 1) := dk_27 (dk_at dksX6_fires_0 4 rfl rfl)
theorem dX6_fires_5 : decode cX6_fires 5 = .ok (.iconst 3, 1) := dk_6 (dk_at dksX6_fires_0 5 rfl rfl)
theorem dX6_fires_6 : decode cX6_fires 6 = .ok (.invokevirtual 78, 3) := dk_182 0 78 (dk_at dksX6_fires_0 6 rfl rfl)
theorem dX6_fires_9 : decode cX6_fires 9 = .ok (.iconst 1, 1) := dk_4 (dk_at dksX6_fires_0 9 rfl rfl)
theorem dX6_fires_10 : decode cX6_fires 10 = .ok (.iadd, 1) := dk_96 (dk_at dksX6_fires_0 10 rfl rfl)
theorem dX6_fires_11 : decode cX6_fires 11 = .ok (.invokevirtual 58, 3) := dk_182 0 58 (dk_at dksX6_fires_0 11 rfl rfl)
theorem dX6_fires_14 : decode cX6_fires 14 = .ok (.aload_n 0, 1) := dk_42 (dk_at dksX6_fires_0 14 rfl rfl)
theorem dX6_fires_15 : decode cX6_fires 15 = .ok (.iload_n 2, 1) := dk_28 (dk_at dksX6_fires_0 15 rfl rfl)
theorem dX6_fires_16 : decode cX6_fires 16 = .ok (.invokevirtual 94, 3) := dk_182 0 94 (dk_at dksX6_fires_0 16 rfl rfl)
theorem dX6_fires_19 : decode cX6_fires 19 = .ok (.aload_n 0, 1) := dk_42 (dk_at dksX6_fires_0 19 rfl rfl)
theorem dX6_fires_20 : decode cX6_fires 20 = .ok (.iload_n 1, 1) := dk_27 (dk_at dksX6_fires_0 20 rfl rfl)
theorem dX6_fires_21 : decode cX6_fires 21 = .ok (.iconst 2, 1) := dk_5 (dk_at dksX6_fires_0 21 rfl rfl)
theorem dX6_fires_22 : decode cX6_fires 22 = .ok (.invokevirtual 78, 3) := dk_182 0 78 (dk_at dksX6_fires_1 0 rfl rfl)
theorem dX6_fires_25 : decode cX6_fires 25 = .ok (.if_icmp .gt 10, 3) := dk_163 0 10 (dk_at dksX6_fires_1 3 rfl rfl)
theorem dX6_fires_28 : decode cX6_fires 28 = .ok (.aload_n 0, 1) := dk_42 (dk_at dksX6_fires_1 6 rfl rfl)
theorem dX6_fires_29 : decode cX6_fires 29 = .ok (.iload_n 2, 1) := dk_28 (dk_at dksX6_fires_1 7 rfl rfl)
theorem dX6_fires_30 : decode cX6_fires 30 = .ok (.iload_n 1, 1) := dk_27 (dk_at dksX6_fires_1 8 rfl rfl)
theorem dX6_fires_31 : decode cX6_fires 31 = .ok (.invokevirtual 98, 3) := dk_182 0 98 (dk_at dksX6_fires_1 9 rfl rfl)
theorem dX6_fires_34 : decode cX6_fires 34 = .ok (.return_, 1) := dk_177 (dk_at dksX6_fires_1 12 rfl rfl)
theorem dX6_fires_35 : decode cX6_fires 35 = .ok (.aload_n 0, 1) := dk_42 (dk_at dksX6_fires_1 13 rfl rfl)
theorem dX6_fires_36 : decode cX6_fires 36 = .ok (.aload_n 0, 1) := dk_42 (dk_at dksX6_fires_1 14 rfl rfl)
theorem dX6_fires_37 : decode cX6_fires 37 = .ok (.iload_n 1, 1) := dk_27 (dk_at dksX6_fires_1 15 rfl rfl)
theorem dX6_fires_38 : decode cX6_fires 38 = .ok (.iconst 0, 1) := dk_3 (dk_at dksX6_fires_1 16 rfl rfl)
theorem dX6_fires_39 : decode cX6_fires 39 = .ok (.invokevirtual 78, 3) := dk_182 0 78 (dk_at dksX6_fires_1 17 rfl rfl)
theorem dX6_fires_42 : decode cX6_fires 42 = .ok (.invokevirtual 101, 3) := dk_182 0 101 (dk_at dksX6_fires_1 20 rfl rfl)
theorem dX6_fires_45 : decode cX6_fires 45 = .ok (.istore_n 3, 1) := dk_62 (dk_at dksX6_fires_1 23 rfl rfl)
theorem dX6_fires_46 : decode cX6_fires 46 = .ok (.aload_n 0, 1) := dk_42 (dk_at dksX6_fires_2 0 rfl rfl)
theorem dX6_fires_47 : decode cX6_fires 47 = .ok (.bipush 6, 2) := dk_16 6 (dk_at dksX6_fires_2 1 rfl rfl)
theorem dX6_fires_49 : decode cX6_fires 49 = .ok (.iload_n 3, 1) := dk_29 (dk_at dksX6_fires_2 3 rfl rfl)
theorem dX6_fires_50 : decode cX6_fires 50 = .ok (.iconst (-1), 1) := dk_2 (dk_at dksX6_fires_2 4 rfl rfl)
theorem dX6_fires_51 : decode cX6_fires 51 = .ok (.if_icmp .ne 7, 3) := dk_160 0 7 (dk_at dksX6_fires_2 5 rfl rfl)
theorem dX6_fires_54 : decode cX6_fires 54 = .ok (.iconst 1, 1) := dk_4 (dk_at dksX6_fires_2 8 rfl rfl)
theorem dX6_fires_55 : decode cX6_fires 55 = .ok (.goto 4, 3) := dk_167 0 4 (dk_at dksX6_fires_2 9 rfl rfl)
theorem dX6_fires_58 : decode cX6_fires 58 = .ok (.iconst 0, 1) := dk_3 (dk_at dksX6_fires_2 12 rfl rfl)
theorem dX6_fires_59 : decode cX6_fires 59 = .ok (.invokestatic 81, 3) := dk_184 0 81 (dk_at dksX6_fires_2 13 rfl rfl)
theorem dX6_fires_62 : decode cX6_fires 62 = .ok (.invokevirtual 91, 3) := dk_182 0 91 (dk_at dksX6_fires_2 16 rfl rfl)
theorem dX6_fires_65 : decode cX6_fires 65 = .ok (.iload_n 3, 1) := dk_29 (dk_at dksX6_fires_2 19 rfl rfl)
theorem dX6_fires_66 : decode cX6_fires 66 = .ok (.iconst (-1), 1) := dk_2 (dk_at dksX6_fires_2 20 rfl rfl)
theorem dX6_fires_67 : decode cX6_fires 67 = .ok (.if_icmp .eq 9, 3) := dk_159 0 9 (dk_at dksX6_fires_2 21 rfl rfl)
theorem dX6_fires_70 : decode cX6_fires 70 = .ok (.aload_n 0, 1) := dk_42 (dk_at dksX6_fires_3 0 rfl rfl)
theorem dX6_fires_71 : decode cX6_fires 71 = .ok (.iload_n 3, 1) := dk_29 (dk_at dksX6_fires_3 1 rfl rfl)
theorem dX6_fires_72 : decode cX6_fires 72 = .ok (.iload_n 1, 1) := dk_27 (dk_at dksX6_fires_3 2 rfl rfl)
theorem dX6_fires_73 : decode cX6_fires 73 = .ok (.invokevirtual 98, 3) := dk_182 0 98 (dk_at dksX6_fires_3 3 rfl rfl)
theorem dX6_fires_76 : decode cX6_fires 76 = .ok (.aload_n 0, 1) := dk_42 (dk_at dksX6_fires_3 6 rfl rfl)
theorem dX6_fires_77 : decode cX6_fires 77 = .ok (.iload_n 2, 1) := dk_28 (dk_at dksX6_fires_3 7 rfl rfl)
theorem dX6_fires_78 : decode cX6_fires 78 = .ok (.iconst 5, 1) := dk_8 (dk_at dksX6_fires_3 8 rfl rfl)
theorem dX6_fires_79 : decode cX6_fires 79 = .ok (.iconst 0, 1) := dk_3 (dk_at dksX6_fires_3 9 rfl rfl)
theorem dX6_fires_80 : decode cX6_fires 80 = .ok (.invokevirtual 85, 3) := dk_182 0 85 (dk_at dksX6_fires_3 10 rfl rfl)
theorem dX6_fires_83 : decode cX6_fires 83 = .ok (.return_, 1) := dk_177 (dk_at dksX6_fires_3 13 rfl rfl)
abbrev cX6_comesInto : ByteArray := prog_19_method_26_code
def yX6_comesInto : MethodName := ⟨RX6, "comesInto", "(II)V"⟩
def dkwX6_comesInto_3 : List UInt8 := [160, 0, 7, 5, 167, 0, 4, 6, 4, 182, 0, 91, 177]
abbrev dktX6_comesInto_3 : List UInt8 := dkwX6_comesInto_3 ++ []
def dkwX6_comesInto_2 : List UInt8 := [42, 28, 16, 7, 42, 28, 16, 7, 182, 0, 78, 4, 96, 182, 0, 58, 42, 42, 27, 3, 182, 0, 62, 28]
abbrev dktX6_comesInto_2 : List UInt8 := dkwX6_comesInto_2 ++ dktX6_comesInto_3
def dkwX6_comesInto_1 : List UInt8 := [182, 0, 78, 96, 27, 182, 0, 58, 42, 28, 16, 6, 42, 28, 16, 6, 182, 0, 78, 4, 96, 182, 0, 58]
abbrev dktX6_comesInto_1 : List UInt8 := dkwX6_comesInto_1 ++ dktX6_comesInto_2
def dkwX6_comesInto_0 : List UInt8 := [42, 27, 4, 182, 0, 88, 42, 27, 16, 7, 28, 182, 0, 85, 42, 28, 16, 8, 42, 28, 16, 6]
abbrev dktX6_comesInto_0 : List UInt8 := dkwX6_comesInto_0 ++ dktX6_comesInto_1
theorem dksX6_comesInto_0 : cX6_comesInto.data.toList.drop 0 = dktX6_comesInto_0 := by decide +kernel
theorem dksX6_comesInto_1 : cX6_comesInto.data.toList.drop 22 = dktX6_comesInto_1 := dk_seg dksX6_comesInto_0 22 rfl rfl
theorem dksX6_comesInto_2 : cX6_comesInto.data.toList.drop 46 = dktX6_comesInto_2 := dk_seg dksX6_comesInto_1 24 rfl rfl
theorem dksX6_comesInto_3 : cX6_comesInto.data.toList.drop 70 = dktX6_comesInto_3 := dk_seg dksX6_comesInto_2 24 rfl rfl
theorem dX6_comesInto_0 : decode cX6_comesInto 0 = .ok (.aload_n 0, 1) := dk_42 (dk_at dksX6_comesInto_0 0 rfl rfl)
theorem dX6_comesInto_1 : decode cX6_comesInto 1 = .ok (.iload_n 1, 1) := dk_27 (dk_at dksX6_comesInto_0 1 rfl rfl)
theorem dX6_comesInto_2 : decode cX6_comesInto 2 = .ok (.iconst 1, 1) := dk_4 (dk_at dksX6_comesInto_0 2 rfl rfl)
theorem dX6_comesInto_3 : decode cX6_comesInto 3 = .ok (.invokevirtual 88, 3) := dk_182 0 88 (dk_at dksX6_comesInto_0 3 rfl rfl)
theorem dX6_comesInto_6 : decode cX6_comesInto 6 = .ok (.aload_n 0, 1) := dk_42 (dk_at dksX6_comesInto_0 6 rfl rfl)
theorem dX6_comesInto_7 : decode cX6_comesInto 7 = .ok (.iload_n 1, 1) := dk_27 (dk_at dksX6_comesInto_0 7 rfl rfl)
theorem dX6_comesInto_8 : decode cX6_comesInto 8 = .ok (.bipush 7, 2) := dk_16 7 (dk_at dksX6_comesInto_0 8 rfl rfl)
theorem dX6_comesInto_10 : decode cX6_comesInto 10 = .ok (.iload_n 2, 1) := dk_28 (dk_at dksX6_comesInto_0 10 rfl rfl)
theorem dX6_comesInto_11 : decode cX6_comesInto 11 = .ok (.invokevirtual 85, 3) := dk_182 0 85 (dk_at dksX6_comesInto_0 11 rfl rfl)
theorem dX6_comesInto_14 : decode cX6_comesInto 14 = .ok (.aload_n 0, 1) := dk_42 (dk_at dksX6_comesInto_0 14 rfl rfl)
theorem dX6_comesInto_15 : decode cX6_comesInto 15 = .ok (.iload_n 2, 1) := dk_28 (dk_at dksX6_comesInto_0 15 rfl rfl)
theorem dX6_comesInto_16 : decode cX6_comesInto 16 = .ok (.bipush 8, 2) := dk_16 8 (dk_at dksX6_comesInto_0 16 rfl rfl)
theorem dX6_comesInto_18 : decode cX6_comesInto 18 = .ok (.aload_n 0, 1) := dk_42 (dk_at dksX6_comesInto_0 18 rfl rfl)
theorem dX6_comesInto_19 : decode cX6_comesInto 19 = .ok (.iload_n 2, 1) := dk_28 (dk_at dksX6_comesInto_0 19 rfl rfl)
theorem dX6_comesInto_20 : decode cX6_comesInto 20 = .ok (.bipush 6, 2) := dk_16 6 (dk_at dksX6_comesInto_0 20 rfl rfl)
theorem dX6_comesInto_22 : decode cX6_comesInto 22 = .ok (.invokevirtual 78, 3) := dk_182 0 78 (dk_at dksX6_comesInto_1 0 rfl rfl)
theorem dX6_comesInto_25 : decode cX6_comesInto 25 = .ok (.iadd, 1) := dk_96 (dk_at dksX6_comesInto_1 3 rfl rfl)
theorem dX6_comesInto_26 : decode cX6_comesInto 26 = .ok (.iload_n 1, 1) := dk_27 (dk_at dksX6_comesInto_1 4 rfl rfl)
theorem dX6_comesInto_27 : decode cX6_comesInto 27 = .ok (.invokevirtual 58, 3) := dk_182 0 58 (dk_at dksX6_comesInto_1 5 rfl rfl)
theorem dX6_comesInto_30 : decode cX6_comesInto 30 = .ok (.aload_n 0, 1) := dk_42 (dk_at dksX6_comesInto_1 8 rfl rfl)
theorem dX6_comesInto_31 : decode cX6_comesInto 31 = .ok (.iload_n 2, 1) := dk_28 (dk_at dksX6_comesInto_1 9 rfl rfl)
theorem dX6_comesInto_32 : decode cX6_comesInto 32 = .ok (.bipush 6, 2) := dk_16 6 (dk_at dksX6_comesInto_1 10 rfl rfl)
theorem dX6_comesInto_34 : decode cX6_comesInto 34 = .ok (.aload_n 0, 1) := dk_42 (dk_at dksX6_comesInto_1 12 rfl rfl)
theorem dX6_comesInto_35 : decode cX6_comesInto 35 = .ok (.iload_n 2, 1) := dk_28 (dk_at dksX6_comesInto_1 13 rfl rfl)
theorem dX6_comesInto_36 : decode cX6_comesInto 36 = .ok (.bipush 6, 2) := dk_16 6 (dk_at dksX6_comesInto_1 14 rfl rfl)
theorem dX6_comesInto_38 : decode cX6_comesInto 38 = .ok (.invokevirtual 78, 3) := dk_182 0 78 (dk_at dksX6_comesInto_1 16 rfl rfl)
theorem dX6_comesInto_41 : decode cX6_comesInto 41 = .ok (.iconst 1, 1) := dk_4 (dk_at dksX6_comesInto_1 19 rfl rfl)
theorem dX6_comesInto_42 : decode cX6_comesInto 42 = .ok (.iadd, 1) := dk_96 (dk_at dksX6_comesInto_1 20 rfl rfl)
theorem dX6_comesInto_43 : decode cX6_comesInto 43 = .ok (.invokevirtual 58, 3) := dk_182 0 58 (dk_at dksX6_comesInto_1 21 rfl rfl)
theorem dX6_comesInto_46 : decode cX6_comesInto 46 = .ok (.aload_n 0, 1) := dk_42 (dk_at dksX6_comesInto_2 0 rfl rfl)
theorem dX6_comesInto_47 : decode cX6_comesInto 47 = .ok (.iload_n 2, 1) := dk_28 (dk_at dksX6_comesInto_2 1 rfl rfl)
theorem dX6_comesInto_48 : decode cX6_comesInto 48 = .ok (.bipush 7, 2) := dk_16 7 (dk_at dksX6_comesInto_2 2 rfl rfl)
theorem dX6_comesInto_50 : decode cX6_comesInto 50 = .ok (.aload_n 0, 1) := dk_42 (dk_at dksX6_comesInto_2 4 rfl rfl)
theorem dX6_comesInto_51 : decode cX6_comesInto 51 = .ok (.iload_n 2, 1) := dk_28 (dk_at dksX6_comesInto_2 5 rfl rfl)
theorem dX6_comesInto_52 : decode cX6_comesInto 52 = .ok (.bipush 7, 2) := dk_16 7 (dk_at dksX6_comesInto_2 6 rfl rfl)
theorem dX6_comesInto_54 : decode cX6_comesInto 54 = .ok (.invokevirtual 78, 3) := dk_182 0 78 (dk_at dksX6_comesInto_2 8 rfl rfl)
theorem dX6_comesInto_57 : decode cX6_comesInto 57 = .ok (.iconst 1, 1) := dk_4 (dk_at dksX6_comesInto_2 11 rfl rfl)
theorem dX6_comesInto_58 : decode cX6_comesInto 58 = .ok (.iadd, 1) := dk_96 (dk_at dksX6_comesInto_2 12 rfl rfl)
theorem dX6_comesInto_59 : decode cX6_comesInto 59 = .ok (.invokevirtual 58, 3) := dk_182 0 58 (dk_at dksX6_comesInto_2 13 rfl rfl)
theorem dX6_comesInto_62 : decode cX6_comesInto 62 = .ok (.aload_n 0, 1) := dk_42 (dk_at dksX6_comesInto_2 16 rfl rfl)
theorem dX6_comesInto_63 : decode cX6_comesInto 63 = .ok (.aload_n 0, 1) := dk_42 (dk_at dksX6_comesInto_2 17 rfl rfl)
theorem dX6_comesInto_64 : decode cX6_comesInto 64 = .ok (.iload_n 1, 1) := dk_27 (dk_at dksX6_comesInto_2 18 rfl rfl)
theorem dX6_comesInto_65 : decode cX6_comesInto 65 = .ok (.iconst 0, 1) := dk_3 (dk_at dksX6_comesInto_2 19 rfl rfl)
theorem dX6_comesInto_66 : decode cX6_comesInto 66 = .ok (.invokevirtual 62, 3) := dk_182 0 62 (dk_at dksX6_comesInto_2 20 rfl rfl)
theorem dX6_comesInto_69 : decode cX6_comesInto 69 = .ok (.iload_n 2, 1) := dk_28 (dk_at dksX6_comesInto_2 23 rfl rfl)
theorem dX6_comesInto_70 : decode cX6_comesInto 70 = .ok (.if_icmp .ne 7, 3) := dk_160 0 7 (dk_at dksX6_comesInto_3 0 rfl rfl)
theorem dX6_comesInto_73 : decode cX6_comesInto 73 = .ok (.iconst 2, 1) := dk_5 (dk_at dksX6_comesInto_3 3 rfl rfl)
theorem dX6_comesInto_74 : decode cX6_comesInto 74 = .ok (.goto 4, 3) := dk_167 0 4 (dk_at dksX6_comesInto_3 4 rfl rfl)
theorem dX6_comesInto_77 : decode cX6_comesInto 77 = .ok (.iconst 3, 1) := dk_6 (dk_at dksX6_comesInto_3 7 rfl rfl)
theorem dX6_comesInto_78 : decode cX6_comesInto 78 = .ok (.iconst 1, 1) := dk_4 (dk_at dksX6_comesInto_3 8 rfl rfl)
theorem dX6_comesInto_79 : decode cX6_comesInto 79 = .ok (.invokevirtual 91, 3) := dk_182 0 91 (dk_at dksX6_comesInto_3 9 rfl rfl)
theorem dX6_comesInto_82 : decode cX6_comesInto 82 = .ok (.return_, 1) := dk_177 (dk_at dksX6_comesInto_3 12 rfl rfl)
abbrev cX6_barsSlip : ByteArray := prog_19_method_33_code
def yX6_barsSlip : MethodName := ⟨RX6, "barsSlip", "(I)I"⟩
def dkwX6_barsSlip_1 : List UInt8 := [7, 182, 0, 62, 4, 100, 182, 0, 101, 2, 160, 0, 7, 3, 167, 0, 4, 6, 172]
abbrev dktX6_barsSlip_1 : List UInt8 := dkwX6_barsSlip_1 ++ []
def dkwX6_barsSlip_0 : List UInt8 := [42, 27, 182, 0, 66, 154, 0, 5, 4, 172, 42, 27, 7, 182, 0, 62, 154, 0, 5, 5, 172, 42, 42, 27]
abbrev dktX6_barsSlip_0 : List UInt8 := dkwX6_barsSlip_0 ++ dktX6_barsSlip_1
theorem dksX6_barsSlip_0 : cX6_barsSlip.data.toList.drop 0 = dktX6_barsSlip_0 := by decide +kernel
theorem dksX6_barsSlip_1 : cX6_barsSlip.data.toList.drop 24 = dktX6_barsSlip_1 := dk_seg dksX6_barsSlip_0 24 rfl rfl
theorem dX6_barsSlip_0 : decode cX6_barsSlip 0 = .ok (.aload_n 0, 1) := dk_42 (dk_at dksX6_barsSlip_0 0 rfl rfl)
theorem dX6_barsSlip_1 : decode cX6_barsSlip 1 = .ok (.iload_n 1, 1) := dk_27 (dk_at dksX6_barsSlip_0 1 rfl rfl)
theorem dX6_barsSlip_2 : decode cX6_barsSlip 2 = .ok (.invokevirtual 66, 3) := dk_182 0 66 (dk_at dksX6_barsSlip_0 2 rfl rfl)
theorem dX6_barsSlip_5 : decode cX6_barsSlip 5 = .ok (.ifCond .ne 5, 3) := dk_154 0 5 (dk_at dksX6_barsSlip_0 5 rfl rfl)
theorem dX6_barsSlip_8 : decode cX6_barsSlip 8 = .ok (.iconst 1, 1) := dk_4 (dk_at dksX6_barsSlip_0 8 rfl rfl)
theorem dX6_barsSlip_9 : decode cX6_barsSlip 9 = .ok (.ireturn, 1) := dk_172 (dk_at dksX6_barsSlip_0 9 rfl rfl)
theorem dX6_barsSlip_10 : decode cX6_barsSlip 10 = .ok (.aload_n 0, 1) := dk_42 (dk_at dksX6_barsSlip_0 10 rfl rfl)
theorem dX6_barsSlip_11 : decode cX6_barsSlip 11 = .ok (.iload_n 1, 1) := dk_27 (dk_at dksX6_barsSlip_0 11 rfl rfl)
theorem dX6_barsSlip_12 : decode cX6_barsSlip 12 = .ok (.iconst 4, 1) := dk_7 (dk_at dksX6_barsSlip_0 12 rfl rfl)
theorem dX6_barsSlip_13 : decode cX6_barsSlip 13 = .ok (.invokevirtual 62, 3) := dk_182 0 62 (dk_at dksX6_barsSlip_0 13 rfl rfl)
theorem dX6_barsSlip_16 : decode cX6_barsSlip 16 = .ok (.ifCond .ne 5, 3) := dk_154 0 5 (dk_at dksX6_barsSlip_0 16 rfl rfl)
theorem dX6_barsSlip_19 : decode cX6_barsSlip 19 = .ok (.iconst 2, 1) := dk_5 (dk_at dksX6_barsSlip_0 19 rfl rfl)
theorem dX6_barsSlip_20 : decode cX6_barsSlip 20 = .ok (.ireturn, 1) := dk_172 (dk_at dksX6_barsSlip_0 20 rfl rfl)
theorem dX6_barsSlip_21 : decode cX6_barsSlip 21 = .ok (.aload_n 0, 1) := dk_42 (dk_at dksX6_barsSlip_0 21 rfl rfl)
theorem dX6_barsSlip_22 : decode cX6_barsSlip 22 = .ok (.aload_n 0, 1) := dk_42 (dk_at dksX6_barsSlip_0 22 rfl rfl)
theorem dX6_barsSlip_23 : decode cX6_barsSlip 23 = .ok (.iload_n 1, 1) := dk_27 (dk_at dksX6_barsSlip_0 23 rfl rfl)
theorem dX6_barsSlip_24 : decode cX6_barsSlip 24 = .ok (.iconst 4, 1) := dk_7 (dk_at dksX6_barsSlip_1 0 rfl rfl)
theorem dX6_barsSlip_25 : decode cX6_barsSlip 25 = .ok (.invokevirtual 62, 3) := dk_182 0 62 (dk_at dksX6_barsSlip_1 1 rfl rfl)
theorem dX6_barsSlip_28 : decode cX6_barsSlip 28 = .ok (.iconst 1, 1) := dk_4 (dk_at dksX6_barsSlip_1 4 rfl rfl)
theorem dX6_barsSlip_29 : decode cX6_barsSlip 29 = .ok (.isub, 1) := dk_100 (dk_at dksX6_barsSlip_1 5 rfl rfl)
theorem dX6_barsSlip_30 : decode cX6_barsSlip 30 = .ok (.invokevirtual 101, 3) := dk_182 0 101 (dk_at dksX6_barsSlip_1 6 rfl rfl)
theorem dX6_barsSlip_33 : decode cX6_barsSlip 33 = .ok (.iconst (-1), 1) := dk_2 (dk_at dksX6_barsSlip_1 9 rfl rfl)
theorem dX6_barsSlip_34 : decode cX6_barsSlip 34 = .ok (.if_icmp .ne 7, 3) := dk_160 0 7 (dk_at dksX6_barsSlip_1 10 rfl rfl)
theorem dX6_barsSlip_37 : decode cX6_barsSlip 37 = .ok (.iconst 0, 1) := dk_3 (dk_at dksX6_barsSlip_1 13 rfl rfl)
theorem dX6_barsSlip_38 : decode cX6_barsSlip 38 = .ok (.goto 4, 3) := dk_167 0 4 (dk_at dksX6_barsSlip_1 14 rfl rfl)
theorem dX6_barsSlip_41 : decode cX6_barsSlip 41 = .ok (.iconst 3, 1) := dk_6 (dk_at dksX6_barsSlip_1 17 rfl rfl)
theorem dX6_barsSlip_42 : decode cX6_barsSlip 42 = .ok (.ireturn, 1) := dk_172 (dk_at dksX6_barsSlip_1 18 rfl rfl)
abbrev cX6_slips : ByteArray := prog_19_method_35_code
def yX6_slips : MethodName := ⟨RX6, "slips", "(I)I"⟩
def dkwX6_slips_1 : List UInt8 := [16, 11, 4, 182, 0, 91, 42, 27, 7, 182, 0, 62, 172]
abbrev dktX6_slips_1 : List UInt8 := dkwX6_slips_1 ++ []
def dkwX6_slips_0 : List UInt8 := [42, 27, 7, 42, 27, 7, 182, 0, 62, 4, 100, 182, 0, 85, 42, 27, 16, 9, 4, 182, 0, 85, 42]
abbrev dktX6_slips_0 : List UInt8 := dkwX6_slips_0 ++ dktX6_slips_1
theorem dksX6_slips_0 : cX6_slips.data.toList.drop 0 = dktX6_slips_0 := by decide +kernel
theorem dksX6_slips_1 : cX6_slips.data.toList.drop 23 = dktX6_slips_1 := dk_seg dksX6_slips_0 23 rfl rfl
theorem dX6_slips_0 : decode cX6_slips 0 = .ok (.aload_n 0, 1) := dk_42 (dk_at dksX6_slips_0 0 rfl rfl)
theorem dX6_slips_1 : decode cX6_slips 1 = .ok (.iload_n 1, 1) := dk_27 (dk_at dksX6_slips_0 1 rfl rfl)
theorem dX6_slips_2 : decode cX6_slips 2 = .ok (.iconst 4, 1) := dk_7 (dk_at dksX6_slips_0 2 rfl rfl)
theorem dX6_slips_3 : decode cX6_slips 3 = .ok (.aload_n 0, 1) := dk_42 (dk_at dksX6_slips_0 3 rfl rfl)
theorem dX6_slips_4 : decode cX6_slips 4 = .ok (.iload_n 1, 1) := dk_27 (dk_at dksX6_slips_0 4 rfl rfl)
theorem dX6_slips_5 : decode cX6_slips 5 = .ok (.iconst 4, 1) := dk_7 (dk_at dksX6_slips_0 5 rfl rfl)
theorem dX6_slips_6 : decode cX6_slips 6 = .ok (.invokevirtual 62, 3) := dk_182 0 62 (dk_at dksX6_slips_0 6 rfl rfl)
theorem dX6_slips_9 : decode cX6_slips 9 = .ok (.iconst 1, 1) := dk_4 (dk_at dksX6_slips_0 9 rfl rfl)
theorem dX6_slips_10 : decode cX6_slips 10 = .ok (.isub, 1) := dk_100 (dk_at dksX6_slips_0 10 rfl rfl)
theorem dX6_slips_11 : decode cX6_slips 11 = .ok (.invokevirtual 85, 3) := dk_182 0 85 (dk_at dksX6_slips_0 11 rfl rfl)
theorem dX6_slips_14 : decode cX6_slips 14 = .ok (.aload_n 0, 1) := dk_42 (dk_at dksX6_slips_0 14 rfl rfl)
theorem dX6_slips_15 : decode cX6_slips 15 = .ok (.iload_n 1, 1) := dk_27 (dk_at dksX6_slips_0 15 rfl rfl)
theorem dX6_slips_16 : decode cX6_slips 16 = .ok (.bipush 9, 2) := dk_16 9 (dk_at dksX6_slips_0 16 rfl rfl)
theorem dX6_slips_18 : decode cX6_slips 18 = .ok (.iconst 1, 1) := dk_4 (dk_at dksX6_slips_0 18 rfl rfl)
theorem dX6_slips_19 : decode cX6_slips 19 = .ok (.invokevirtual 85, 3) := dk_182 0 85 (dk_at dksX6_slips_0 19 rfl rfl)
theorem dX6_slips_22 : decode cX6_slips 22 = .ok (.aload_n 0, 1) := dk_42 (dk_at dksX6_slips_0 22 rfl rfl)
theorem dX6_slips_23 : decode cX6_slips 23 = .ok (.bipush 11, 2) := dk_16 11 (dk_at dksX6_slips_1 0 rfl rfl)
theorem dX6_slips_25 : decode cX6_slips 25 = .ok (.iconst 1, 1) := dk_4 (dk_at dksX6_slips_1 2 rfl rfl)
theorem dX6_slips_26 : decode cX6_slips 26 = .ok (.invokevirtual 91, 3) := dk_182 0 91 (dk_at dksX6_slips_1 3 rfl rfl)
theorem dX6_slips_29 : decode cX6_slips 29 = .ok (.aload_n 0, 1) := dk_42 (dk_at dksX6_slips_1 6 rfl rfl)
theorem dX6_slips_30 : decode cX6_slips 30 = .ok (.iload_n 1, 1) := dk_27 (dk_at dksX6_slips_1 7 rfl rfl)
theorem dX6_slips_31 : decode cX6_slips 31 = .ok (.iconst 4, 1) := dk_7 (dk_at dksX6_slips_1 8 rfl rfl)
theorem dX6_slips_32 : decode cX6_slips 32 = .ok (.invokevirtual 62, 3) := dk_182 0 62 (dk_at dksX6_slips_1 9 rfl rfl)
theorem dX6_slips_35 : decode cX6_slips 35 = .ok (.ireturn, 1) := dk_172 (dk_at dksX6_slips_1 12 rfl rfl)
abbrev cX6_empties : ByteArray := prog_19_method_36_code
def yX6_empties : MethodName := ⟨RX6, "empties", "(I)I"⟩
def dkwX6_empties_2 : List UInt8 := [42, 27, 16, 6, 3, 182, 0, 58, 42, 16, 10, 28, 182, 0, 91, 28, 172]
abbrev dktX6_empties_2 : List UInt8 := dkwX6_empties_2 ++ []
def dkwX6_empties_1 : List UInt8 := [182, 0, 78, 6, 5, 182, 0, 85, 42, 27, 16, 8, 29, 96, 3, 182, 0, 58, 132, 3, 1, 167, 255, 223]
abbrev dktX6_empties_1 : List UInt8 := dkwX6_empties_1 ++ dktX6_empties_2
def dkwX6_empties_0 : List UInt8 := [42, 27, 16, 6, 182, 0, 78, 61, 3, 62, 29, 28, 162, 0, 34, 42, 42, 27, 16, 8, 29, 96]
abbrev dktX6_empties_0 : List UInt8 := dkwX6_empties_0 ++ dktX6_empties_1
theorem dksX6_empties_0 : cX6_empties.data.toList.drop 0 = dktX6_empties_0 := by decide +kernel
theorem dksX6_empties_1 : cX6_empties.data.toList.drop 22 = dktX6_empties_1 := dk_seg dksX6_empties_0 22 rfl rfl
theorem dksX6_empties_2 : cX6_empties.data.toList.drop 46 = dktX6_empties_2 := dk_seg dksX6_empties_1 24 rfl rfl
theorem dX6_empties_0 : decode cX6_empties 0 = .ok (.aload_n 0, 1) := dk_42 (dk_at dksX6_empties_0 0 rfl rfl)
theorem dX6_empties_1 : decode cX6_empties 1 = .ok (.iload_n 1, 1) := dk_27 (dk_at dksX6_empties_0 1 rfl rfl)
theorem dX6_empties_2 : decode cX6_empties 2 = .ok (.bipush 6, 2) := dk_16 6 (dk_at dksX6_empties_0 2 rfl rfl)
theorem dX6_empties_4 : decode cX6_empties 4 = .ok (.invokevirtual 78, 3) := dk_182 0 78 (dk_at dksX6_empties_0 4 rfl rfl)
theorem dX6_empties_7 : decode cX6_empties 7 = .ok (.istore_n 2, 1) := dk_61 (dk_at dksX6_empties_0 7 rfl rfl)
theorem dX6_empties_8 : decode cX6_empties 8 = .ok (.iconst 0, 1) := dk_3 (dk_at dksX6_empties_0 8 rfl rfl)
theorem dX6_empties_9 : decode cX6_empties 9 = .ok (.istore_n 3, 1) := dk_62 (dk_at dksX6_empties_0 9 rfl rfl)
theorem dX6_empties_10 : decode cX6_empties 10 = .ok (.iload_n 3, 1) := dk_29 (dk_at dksX6_empties_0 10 rfl rfl)
theorem dX6_empties_11 : decode cX6_empties 11 = .ok (.iload_n 2, 1) := dk_28 (dk_at dksX6_empties_0 11 rfl rfl)
theorem dX6_empties_12 : decode cX6_empties 12 = .ok (.if_icmp .ge 34, 3) := dk_162 0 34 (dk_at dksX6_empties_0 12 rfl rfl)
theorem dX6_empties_15 : decode cX6_empties 15 = .ok (.aload_n 0, 1) := dk_42 (dk_at dksX6_empties_0 15 rfl rfl)
theorem dX6_empties_16 : decode cX6_empties 16 = .ok (.aload_n 0, 1) := dk_42 (dk_at dksX6_empties_0 16 rfl rfl)
theorem dX6_empties_17 : decode cX6_empties 17 = .ok (.iload_n 1, 1) := dk_27 (dk_at dksX6_empties_0 17 rfl rfl)
theorem dX6_empties_18 : decode cX6_empties 18 = .ok (.bipush 8, 2) := dk_16 8 (dk_at dksX6_empties_0 18 rfl rfl)
theorem dX6_empties_20 : decode cX6_empties 20 = .ok (.iload_n 3, 1) := dk_29 (dk_at dksX6_empties_0 20 rfl rfl)
theorem dX6_empties_21 : decode cX6_empties 21 = .ok (.iadd, 1) := dk_96 (dk_at dksX6_empties_0 21 rfl rfl)
theorem dX6_empties_22 : decode cX6_empties 22 = .ok (.invokevirtual 78, 3) := dk_182 0 78 (dk_at dksX6_empties_1 0 rfl rfl)
theorem dX6_empties_25 : decode cX6_empties 25 = .ok (.iconst 3, 1) := dk_6 (dk_at dksX6_empties_1 3 rfl rfl)
theorem dX6_empties_26 : decode cX6_empties 26 = .ok (.iconst 2, 1) := dk_5 (dk_at dksX6_empties_1 4 rfl rfl)
theorem dX6_empties_27 : decode cX6_empties 27 = .ok (.invokevirtual 85, 3) := dk_182 0 85 (dk_at dksX6_empties_1 5 rfl rfl)
theorem dX6_empties_30 : decode cX6_empties 30 = .ok (.aload_n 0, 1) := dk_42 (dk_at dksX6_empties_1 8 rfl rfl)
theorem dX6_empties_31 : decode cX6_empties 31 = .ok (.iload_n 1, 1) := dk_27 (dk_at dksX6_empties_1 9 rfl rfl)
theorem dX6_empties_32 : decode cX6_empties 32 = .ok (.bipush 8, 2) := dk_16 8 (dk_at dksX6_empties_1 10 rfl rfl)
theorem dX6_empties_34 : decode cX6_empties 34 = .ok (.iload_n 3, 1) := dk_29 (dk_at dksX6_empties_1 12 rfl rfl)
theorem dX6_empties_35 : decode cX6_empties 35 = .ok (.iadd, 1) := dk_96 (dk_at dksX6_empties_1 13 rfl rfl)
theorem dX6_empties_36 : decode cX6_empties 36 = .ok (.iconst 0, 1) := dk_3 (dk_at dksX6_empties_1 14 rfl rfl)
theorem dX6_empties_37 : decode cX6_empties 37 = .ok (.invokevirtual 58, 3) := dk_182 0 58 (dk_at dksX6_empties_1 15 rfl rfl)
theorem dX6_empties_40 : decode cX6_empties 40 = .ok (.iinc 3 1, 3) := dk_132 3 1 (dk_at dksX6_empties_1 18 rfl rfl)
theorem dX6_empties_43 : decode cX6_empties 43 = .ok (.goto (-33), 3) := dk_167 255 223 (dk_at dksX6_empties_1 21 rfl rfl)
theorem dX6_empties_46 : decode cX6_empties 46 = .ok (.aload_n 0, 1) := dk_42 (dk_at dksX6_empties_2 0 rfl rfl)
theorem dX6_empties_47 : decode cX6_empties 47 = .ok (.iload_n 1, 1) := dk_27 (dk_at dksX6_empties_2 1 rfl rfl)
theorem dX6_empties_48 : decode cX6_empties 48 = .ok (.bipush 6, 2) := dk_16 6 (dk_at dksX6_empties_2 2 rfl rfl)
theorem dX6_empties_50 : decode cX6_empties 50 = .ok (.iconst 0, 1) := dk_3 (dk_at dksX6_empties_2 4 rfl rfl)
theorem dX6_empties_51 : decode cX6_empties 51 = .ok (.invokevirtual 58, 3) := dk_182 0 58 (dk_at dksX6_empties_2 5 rfl rfl)
theorem dX6_empties_54 : decode cX6_empties 54 = .ok (.aload_n 0, 1) := dk_42 (dk_at dksX6_empties_2 8 rfl rfl)
theorem dX6_empties_55 : decode cX6_empties 55 = .ok (.bipush 10, 2) := dk_16 10 (dk_at dksX6_empties_2 9 rfl rfl)
theorem dX6_empties_57 : decode cX6_empties 57 = .ok (.iload_n 2, 1) := dk_28 (dk_at dksX6_empties_2 11 rfl rfl)
theorem dX6_empties_58 : decode cX6_empties 58 = .ok (.invokevirtual 91, 3) := dk_182 0 91 (dk_at dksX6_empties_2 12 rfl rfl)
theorem dX6_empties_61 : decode cX6_empties 61 = .ok (.iload_n 2, 1) := dk_28 (dk_at dksX6_empties_2 15 rfl rfl)
theorem dX6_empties_62 : decode cX6_empties 62 = .ok (.ireturn, 1) := dk_172 (dk_at dksX6_empties_2 16 rfl rfl)
abbrev cX6_opens : ByteArray := prog_19_method_37_code
def yX6_opens : MethodName := ⟨RX6, "opens", "(II)I"⟩
def dkwX6_opens_0 : List UInt8 := [42, 27, 8, 182, 0, 78, 62, 42, 27, 8, 28, 182, 0, 58, 29, 172]
abbrev dktX6_opens_0 : List UInt8 := dkwX6_opens_0 ++ []
theorem dksX6_opens_0 : cX6_opens.data.toList.drop 0 = dktX6_opens_0 := by decide +kernel
theorem dX6_opens_0 : decode cX6_opens 0 = .ok (.aload_n 0, 1) := dk_42 (dk_at dksX6_opens_0 0 rfl rfl)
theorem dX6_opens_1 : decode cX6_opens 1 = .ok (.iload_n 1, 1) := dk_27 (dk_at dksX6_opens_0 1 rfl rfl)
theorem dX6_opens_2 : decode cX6_opens 2 = .ok (.iconst 5, 1) := dk_8 (dk_at dksX6_opens_0 2 rfl rfl)
theorem dX6_opens_3 : decode cX6_opens 3 = .ok (.invokevirtual 78, 3) := dk_182 0 78 (dk_at dksX6_opens_0 3 rfl rfl)
theorem dX6_opens_6 : decode cX6_opens 6 = .ok (.istore_n 3, 1) := dk_62 (dk_at dksX6_opens_0 6 rfl rfl)
theorem dX6_opens_7 : decode cX6_opens 7 = .ok (.aload_n 0, 1) := dk_42 (dk_at dksX6_opens_0 7 rfl rfl)
theorem dX6_opens_8 : decode cX6_opens 8 = .ok (.iload_n 1, 1) := dk_27 (dk_at dksX6_opens_0 8 rfl rfl)
theorem dX6_opens_9 : decode cX6_opens 9 = .ok (.iconst 5, 1) := dk_8 (dk_at dksX6_opens_0 9 rfl rfl)
theorem dX6_opens_10 : decode cX6_opens 10 = .ok (.iload_n 2, 1) := dk_28 (dk_at dksX6_opens_0 10 rfl rfl)
theorem dX6_opens_11 : decode cX6_opens 11 = .ok (.invokevirtual 58, 3) := dk_182 0 58 (dk_at dksX6_opens_0 11 rfl rfl)
theorem dX6_opens_14 : decode cX6_opens 14 = .ok (.iload_n 3, 1) := dk_29 (dk_at dksX6_opens_0 14 rfl rfl)
theorem dX6_opens_15 : decode cX6_opens 15 = .ok (.ireturn, 1) := dk_172 (dk_at dksX6_opens_0 15 rfl rfl)
abbrev cX6_sets : ByteArray := prog_19_method_38_code
def yX6_sets : MethodName := ⟨RX6, "sets", "(II)I"⟩
def dkwX6_sets_1 : List UInt8 := [29, 46, 54, 4, 42, 180, 0, 7, 29, 28, 79, 21, 4, 172]
abbrev dktX6_sets_1 : List UInt8 := dkwX6_sets_1 ++ []
def dkwX6_sets_0 : List UInt8 := [27, 2, 160, 0, 8, 16, 6, 167, 0, 12, 16, 23, 16, 17, 27, 104, 96, 5, 96, 62, 42, 180, 0, 7]
abbrev dktX6_sets_0 : List UInt8 := dkwX6_sets_0 ++ dktX6_sets_1
theorem dksX6_sets_0 : cX6_sets.data.toList.drop 0 = dktX6_sets_0 := by decide +kernel
theorem dksX6_sets_1 : cX6_sets.data.toList.drop 24 = dktX6_sets_1 := dk_seg dksX6_sets_0 24 rfl rfl
theorem dX6_sets_0 : decode cX6_sets 0 = .ok (.iload_n 1, 1) := dk_27 (dk_at dksX6_sets_0 0 rfl rfl)
theorem dX6_sets_1 : decode cX6_sets 1 = .ok (.iconst (-1), 1) := dk_2 (dk_at dksX6_sets_0 1 rfl rfl)
theorem dX6_sets_2 : decode cX6_sets 2 = .ok (.if_icmp .ne 8, 3) := dk_160 0 8 (dk_at dksX6_sets_0 2 rfl rfl)
theorem dX6_sets_5 : decode cX6_sets 5 = .ok (.bipush 6, 2) := dk_16 6 (dk_at dksX6_sets_0 5 rfl rfl)
theorem dX6_sets_7 : decode cX6_sets 7 = .ok (.goto 12, 3) := dk_167 0 12 (dk_at dksX6_sets_0 7 rfl rfl)
theorem dX6_sets_10 : decode cX6_sets 10 = .ok (.bipush 23, 2) := dk_16 23 (dk_at dksX6_sets_0 10 rfl rfl)
theorem dX6_sets_12 : decode cX6_sets 12 = .ok (.bipush 17, 2) := dk_16 17 (dk_at dksX6_sets_0 12 rfl rfl)
theorem dX6_sets_14 : decode cX6_sets 14 = .ok (.iload_n 1, 1) := dk_27 (dk_at dksX6_sets_0 14 rfl rfl)
theorem dX6_sets_15 : decode cX6_sets 15 = .ok (.imul, 1) := dk_104 (dk_at dksX6_sets_0 15 rfl rfl)
theorem dX6_sets_16 : decode cX6_sets 16 = .ok (.iadd, 1) := dk_96 (dk_at dksX6_sets_0 16 rfl rfl)
theorem dX6_sets_17 : decode cX6_sets 17 = .ok (.iconst 2, 1) := dk_5 (dk_at dksX6_sets_0 17 rfl rfl)
theorem dX6_sets_18 : decode cX6_sets 18 = .ok (.iadd, 1) := dk_96 (dk_at dksX6_sets_0 18 rfl rfl)
theorem dX6_sets_19 : decode cX6_sets 19 = .ok (.istore_n 3, 1) := dk_62 (dk_at dksX6_sets_0 19 rfl rfl)
theorem dX6_sets_20 : decode cX6_sets 20 = .ok (.aload_n 0, 1) := dk_42 (dk_at dksX6_sets_0 20 rfl rfl)
theorem dX6_sets_21 : decode cX6_sets 21 = .ok (.getfield 7, 3) := dk_180 0 7 (dk_at dksX6_sets_0 21 rfl rfl)
theorem dX6_sets_24 : decode cX6_sets 24 = .ok (.iload_n 3, 1) := dk_29 (dk_at dksX6_sets_1 0 rfl rfl)
theorem dX6_sets_25 : decode cX6_sets 25 = .ok (.iaload, 1) := dk_46 (dk_at dksX6_sets_1 1 rfl rfl)
theorem dX6_sets_26 : decode cX6_sets 26 = .ok (.istore 4, 2) := dk_54 4 (dk_at dksX6_sets_1 2 rfl rfl)
theorem dX6_sets_28 : decode cX6_sets 28 = .ok (.aload_n 0, 1) := dk_42 (dk_at dksX6_sets_1 4 rfl rfl)
theorem dX6_sets_29 : decode cX6_sets 29 = .ok (.getfield 7, 3) := dk_180 0 7 (dk_at dksX6_sets_1 5 rfl rfl)
theorem dX6_sets_32 : decode cX6_sets 32 = .ok (.iload_n 3, 1) := dk_29 (dk_at dksX6_sets_1 8 rfl rfl)
theorem dX6_sets_33 : decode cX6_sets 33 = .ok (.iload_n 2, 1) := dk_28 (dk_at dksX6_sets_1 9 rfl rfl)
theorem dX6_sets_34 : decode cX6_sets 34 = .ok (.iastore, 1) := dk_79 (dk_at dksX6_sets_1 10 rfl rfl)
theorem dX6_sets_35 : decode cX6_sets 35 = .ok (.iload 4, 2) := dk_21 4 (dk_at dksX6_sets_1 11 rfl rfl)
theorem dX6_sets_37 : decode cX6_sets 37 = .ok (.ireturn, 1) := dk_172 (dk_at dksX6_sets_1 13 rfl rfl)
abbrev cX6_errorCode : ByteArray := prog_19_method_68_code
def yX6_errorCode : MethodName := ⟨RX6, "errorCode", "()I"⟩
def dkwX6_errorCode_0 : List UInt8 := [42, 3, 181, 0, 55, 42, 180, 0, 245, 172]
abbrev dktX6_errorCode_0 : List UInt8 := dkwX6_errorCode_0 ++ []
theorem dksX6_errorCode_0 : cX6_errorCode.data.toList.drop 0 = dktX6_errorCode_0 := by decide +kernel
theorem dX6_errorCode_0 : decode cX6_errorCode 0 = .ok (.aload_n 0, 1) := dk_42 (dk_at dksX6_errorCode_0 0 rfl rfl)
theorem dX6_errorCode_1 : decode cX6_errorCode 1 = .ok (.iconst 0, 1) := dk_3 (dk_at dksX6_errorCode_0 1 rfl rfl)
theorem dX6_errorCode_2 : decode cX6_errorCode 2 = .ok (.putfield 55, 3) := dk_181 0 55 (dk_at dksX6_errorCode_0 2 rfl rfl)
theorem dX6_errorCode_5 : decode cX6_errorCode 5 = .ok (.aload_n 0, 1) := dk_42 (dk_at dksX6_errorCode_0 5 rfl rfl)
theorem dX6_errorCode_6 : decode cX6_errorCode 6 = .ok (.getfield 245, 3) := dk_180 0 245 (dk_at dksX6_errorCode_0 6 rfl rfl)
theorem dX6_errorCode_9 : decode cX6_errorCode 9 = .ok (.ireturn, 1) := dk_172 (dk_at dksX6_errorCode_0 9 rfl rfl)
abbrev cX6_errorOffset : ByteArray := prog_19_method_69_code
def yX6_errorOffset : MethodName := ⟨RX6, "errorOffset", "()I"⟩
def dkwX6_errorOffset_0 : List UInt8 := [42, 3, 181, 0, 55, 42, 180, 0, 28, 172]
abbrev dktX6_errorOffset_0 : List UInt8 := dkwX6_errorOffset_0 ++ []
theorem dksX6_errorOffset_0 : cX6_errorOffset.data.toList.drop 0 = dktX6_errorOffset_0 := by decide +kernel
theorem dX6_errorOffset_0 : decode cX6_errorOffset 0 = .ok (.aload_n 0, 1) := dk_42 (dk_at dksX6_errorOffset_0 0 rfl rfl)
theorem dX6_errorOffset_1 : decode cX6_errorOffset 1 = .ok (.iconst 0, 1) := dk_3 (dk_at dksX6_errorOffset_0 1 rfl rfl)
theorem dX6_errorOffset_2 : decode cX6_errorOffset 2 = .ok (.putfield 55, 3) := dk_181 0 55 (dk_at dksX6_errorOffset_0 2 rfl rfl)
theorem dX6_errorOffset_5 : decode cX6_errorOffset 5 = .ok (.aload_n 0, 1) := dk_42 (dk_at dksX6_errorOffset_0 5 rfl rfl)
theorem dX6_errorOffset_6 : decode cX6_errorOffset 6 = .ok (.getfield 28, 3) := dk_180 0 28 (dk_at dksX6_errorOffset_0 6 rfl rfl)
theorem dX6_errorOffset_9 : decode cX6_errorOffset 9 = .ok (.ireturn, 1) := dk_172 (dk_at dksX6_errorOffset_0 9 rfl rfl)
abbrev cX6_count : ByteArray := prog_19_method_72_code
def yX6_count : MethodName := ⟨RX6, "count", "(I)I"⟩
def dkwX6_count_4 : List UInt8 := [42, 182, 1, 62, 172, 42, 182, 1, 65, 172, 42, 180, 0, 139, 172, 42, 180, 0, 7, 27, 46, 172]
abbrev dktX6_count_4 : List UInt8 := dkwX6_count_4 ++ []
def dkwX6_count_3 : List UInt8 := [42, 3, 182, 0, 133, 172, 42, 4, 182, 0, 133, 172, 42, 5, 182, 0, 133, 172, 42, 6, 182, 0, 133, 172]
abbrev dktX6_count_3 : List UInt8 := dkwX6_count_3 ++ dktX6_count_4
def dkwX6_count_2 : List UInt8 := [170, 0, 0, 0, 80, 0, 0, 0, 7, 0, 0, 0, 13, 0, 0, 0, 41, 0, 0, 0, 47, 0, 0, 0, 53, 0, 0, 0, 59, 0, 0, 0, 65, 0, 0, 0, 70, 0, 0, 0, 75]
abbrev dktX6_count_2 : List UInt8 := dkwX6_count_2 ++ dktX6_count_3
def dkwX6_count_1 : List UInt8 := [182, 1, 58, 153, 0, 5, 3, 172, 27]
abbrev dktX6_count_1 : List UInt8 := dkwX6_count_1 ++ dktX6_count_2
def dkwX6_count_0 : List UInt8 := [42, 3, 181, 0, 55, 42, 27, 3, 16, 13, 184, 0, 152, 154, 0, 7, 4, 167, 0, 4, 3, 4]
abbrev dktX6_count_0 : List UInt8 := dkwX6_count_0 ++ dktX6_count_1
theorem dksX6_count_0 : cX6_count.data.toList.drop 0 = dktX6_count_0 := by decide +kernel
theorem dksX6_count_1 : cX6_count.data.toList.drop 22 = dktX6_count_1 := dk_seg dksX6_count_0 22 rfl rfl
theorem dksX6_count_2 : cX6_count.data.toList.drop 31 = dktX6_count_2 := dk_seg dksX6_count_1 9 rfl rfl
theorem dksX6_count_3 : cX6_count.data.toList.drop 72 = dktX6_count_3 := dk_seg dksX6_count_2 41 rfl rfl
theorem dksX6_count_4 : cX6_count.data.toList.drop 96 = dktX6_count_4 := dk_seg dksX6_count_3 24 rfl rfl
theorem dX6_count_0 : decode cX6_count 0 = .ok (.aload_n 0, 1) := dk_42 (dk_at dksX6_count_0 0 rfl rfl)
theorem dX6_count_1 : decode cX6_count 1 = .ok (.iconst 0, 1) := dk_3 (dk_at dksX6_count_0 1 rfl rfl)
theorem dX6_count_2 : decode cX6_count 2 = .ok (.putfield 55, 3) := dk_181 0 55 (dk_at dksX6_count_0 2 rfl rfl)
theorem dX6_count_5 : decode cX6_count 5 = .ok (.aload_n 0, 1) := dk_42 (dk_at dksX6_count_0 5 rfl rfl)
theorem dX6_count_6 : decode cX6_count 6 = .ok (.iload_n 1, 1) := dk_27 (dk_at dksX6_count_0 6 rfl rfl)
theorem dX6_count_7 : decode cX6_count 7 = .ok (.iconst 0, 1) := dk_3 (dk_at dksX6_count_0 7 rfl rfl)
theorem dX6_count_8 : decode cX6_count 8 = .ok (.bipush 13, 2) := dk_16 13 (dk_at dksX6_count_0 8 rfl rfl)
theorem dX6_count_10 : decode cX6_count 10 = .ok (.invokestatic 152, 3) := dk_184 0 152 (dk_at dksX6_count_0 10 rfl rfl)
theorem dX6_count_13 : decode cX6_count 13 = .ok (.ifCond .ne 7, 3) := dk_154 0 7 (dk_at dksX6_count_0 13 rfl rfl)
theorem dX6_count_16 : decode cX6_count 16 = .ok (.iconst 1, 1) := dk_4 (dk_at dksX6_count_0 16 rfl rfl)
theorem dX6_count_17 : decode cX6_count 17 = .ok (.goto 4, 3) := dk_167 0 4 (dk_at dksX6_count_0 17 rfl rfl)
theorem dX6_count_20 : decode cX6_count 20 = .ok (.iconst 0, 1) := dk_3 (dk_at dksX6_count_0 20 rfl rfl)
theorem dX6_count_21 : decode cX6_count 21 = .ok (.iconst 1, 1) := dk_4 (dk_at dksX6_count_0 21 rfl rfl)
theorem dX6_count_22 : decode cX6_count 22 = .ok (.invokevirtual 314, 3) := dk_182 1 58 (dk_at dksX6_count_1 0 rfl rfl)
theorem dX6_count_25 : decode cX6_count 25 = .ok (.ifCond .eq 5, 3) := dk_153 0 5 (dk_at dksX6_count_1 3 rfl rfl)
theorem dX6_count_28 : decode cX6_count 28 = .ok (.iconst 0, 1) := dk_3 (dk_at dksX6_count_1 6 rfl rfl)
theorem dX6_count_29 : decode cX6_count 29 = .ok (.ireturn, 1) := dk_172 (dk_at dksX6_count_1 7 rfl rfl)
theorem dX6_count_30 : decode cX6_count 30 = .ok (.iload_n 1, 1) := dk_27 (dk_at dksX6_count_1 8 rfl rfl)
theorem dX6_count_31 : decode cX6_count 31 = .ok (.tableswitch 80 7 13 #[41, 47, 53, 59, 65, 70, 75], 41) := by decide +kernel
theorem dX6_count_72 : decode cX6_count 72 = .ok (.aload_n 0, 1) := dk_42 (dk_at dksX6_count_3 0 rfl rfl)
theorem dX6_count_73 : decode cX6_count 73 = .ok (.iconst 0, 1) := dk_3 (dk_at dksX6_count_3 1 rfl rfl)
theorem dX6_count_74 : decode cX6_count 74 = .ok (.invokevirtual 133, 3) := dk_182 0 133 (dk_at dksX6_count_3 2 rfl rfl)
theorem dX6_count_77 : decode cX6_count 77 = .ok (.ireturn, 1) := dk_172 (dk_at dksX6_count_3 5 rfl rfl)
theorem dX6_count_78 : decode cX6_count 78 = .ok (.aload_n 0, 1) := dk_42 (dk_at dksX6_count_3 6 rfl rfl)
theorem dX6_count_79 : decode cX6_count 79 = .ok (.iconst 1, 1) := dk_4 (dk_at dksX6_count_3 7 rfl rfl)
theorem dX6_count_80 : decode cX6_count 80 = .ok (.invokevirtual 133, 3) := dk_182 0 133 (dk_at dksX6_count_3 8 rfl rfl)
theorem dX6_count_83 : decode cX6_count 83 = .ok (.ireturn, 1) := dk_172 (dk_at dksX6_count_3 11 rfl rfl)
theorem dX6_count_84 : decode cX6_count 84 = .ok (.aload_n 0, 1) := dk_42 (dk_at dksX6_count_3 12 rfl rfl)
theorem dX6_count_85 : decode cX6_count 85 = .ok (.iconst 2, 1) := dk_5 (dk_at dksX6_count_3 13 rfl rfl)
theorem dX6_count_86 : decode cX6_count 86 = .ok (.invokevirtual 133, 3) := dk_182 0 133 (dk_at dksX6_count_3 14 rfl rfl)
theorem dX6_count_89 : decode cX6_count 89 = .ok (.ireturn, 1) := dk_172 (dk_at dksX6_count_3 17 rfl rfl)
theorem dX6_count_90 : decode cX6_count 90 = .ok (.aload_n 0, 1) := dk_42 (dk_at dksX6_count_3 18 rfl rfl)
theorem dX6_count_91 : decode cX6_count 91 = .ok (.iconst 3, 1) := dk_6 (dk_at dksX6_count_3 19 rfl rfl)
theorem dX6_count_92 : decode cX6_count 92 = .ok (.invokevirtual 133, 3) := dk_182 0 133 (dk_at dksX6_count_3 20 rfl rfl)
theorem dX6_count_95 : decode cX6_count 95 = .ok (.ireturn, 1) := dk_172 (dk_at dksX6_count_3 23 rfl rfl)
theorem dX6_count_96 : decode cX6_count 96 = .ok (.aload_n 0, 1) := dk_42 (dk_at dksX6_count_4 0 rfl rfl)
theorem dX6_count_97 : decode cX6_count 97 = .ok (.invokevirtual 318, 3) := dk_182 1 62 (dk_at dksX6_count_4 1 rfl rfl)
theorem dX6_count_100 : decode cX6_count 100 = .ok (.ireturn, 1) := dk_172 (dk_at dksX6_count_4 4 rfl rfl)
theorem dX6_count_101 : decode cX6_count 101 = .ok (.aload_n 0, 1) := dk_42 (dk_at dksX6_count_4 5 rfl rfl)
theorem dX6_count_102 : decode cX6_count 102 = .ok (.invokevirtual 321, 3) := dk_182 1 65 (dk_at dksX6_count_4 6 rfl rfl)
theorem dX6_count_105 : decode cX6_count 105 = .ok (.ireturn, 1) := dk_172 (dk_at dksX6_count_4 9 rfl rfl)
theorem dX6_count_106 : decode cX6_count 106 = .ok (.aload_n 0, 1) := dk_42 (dk_at dksX6_count_4 10 rfl rfl)
theorem dX6_count_107 : decode cX6_count 107 = .ok (.getfield 139, 3) := dk_180 0 139 (dk_at dksX6_count_4 11 rfl rfl)
theorem dX6_count_110 : decode cX6_count 110 = .ok (.ireturn, 1) := dk_172 (dk_at dksX6_count_4 14 rfl rfl)
theorem dX6_count_111 : decode cX6_count 111 = .ok (.aload_n 0, 1) := dk_42 (dk_at dksX6_count_4 15 rfl rfl)
theorem dX6_count_112 : decode cX6_count 112 = .ok (.getfield 7, 3) := dk_180 0 7 (dk_at dksX6_count_4 16 rfl rfl)
theorem dX6_count_115 : decode cX6_count 115 = .ok (.iload_n 1, 1) := dk_27 (dk_at dksX6_count_4 19 rfl rfl)
theorem dX6_count_116 : decode cX6_count 116 = .ok (.iaload, 1) := dk_46 (dk_at dksX6_count_4 20 rfl rfl)
theorem dX6_count_117 : decode cX6_count 117 = .ok (.ireturn, 1) := dk_172 (dk_at dksX6_count_4 21 rfl rfl)
abbrev cX6_fails : ByteArray := prog_19_method_5_code
def yX6_fails : MethodName := ⟨RX6, "fails", "(ZI)Z"⟩
def dkwX6_fails_0 : List UInt8 := [27, 153, 0, 8, 42, 28, 181, 0, 55, 27, 172]
abbrev dktX6_fails_0 : List UInt8 := dkwX6_fails_0 ++ []
theorem dksX6_fails_0 : cX6_fails.data.toList.drop 0 = dktX6_fails_0 := by decide +kernel
theorem dX6_fails_0 : decode cX6_fails 0 = .ok (.iload_n 1, 1) := dk_27 (dk_at dksX6_fails_0 0 rfl rfl)
theorem dX6_fails_1 : decode cX6_fails 1 = .ok (.ifCond .eq 8, 3) := dk_153 0 8 (dk_at dksX6_fails_0 1 rfl rfl)
theorem dX6_fails_4 : decode cX6_fails 4 = .ok (.aload_n 0, 1) := dk_42 (dk_at dksX6_fails_0 4 rfl rfl)
theorem dX6_fails_5 : decode cX6_fails 5 = .ok (.iload_n 2, 1) := dk_28 (dk_at dksX6_fails_0 5 rfl rfl)
theorem dX6_fails_6 : decode cX6_fails 6 = .ok (.putfield 55, 3) := dk_181 0 55 (dk_at dksX6_fails_0 6 rfl rfl)
theorem dX6_fails_9 : decode cX6_fails 9 = .ok (.iload_n 1, 1) := dk_27 (dk_at dksX6_fails_0 9 rfl rfl)
theorem dX6_fails_10 : decode cX6_fails 10 = .ok (.ireturn, 1) := dk_172 (dk_at dksX6_fails_0 10 rfl rfl)
abbrev cX6_untracked : ByteArray := prog_19_method_70_code
def yX6_untracked : MethodName := ⟨RX6, "untracked", "()I"⟩
def dkwX6_untracked_2 : List UInt8 := [172]
abbrev dktX6_untracked_2 : List UInt8 := dkwX6_untracked_2 ++ []
def dkwX6_untracked_1 : List UInt8 := [28, 182, 0, 104, 154, 0, 7, 4, 167, 0, 4, 3, 184, 0, 81, 96, 60, 132, 2, 1, 167, 255, 216, 27]
abbrev dktX6_untracked_1 : List UInt8 := dkwX6_untracked_1 ++ dktX6_untracked_2
def dkwX6_untracked_0 : List UInt8 := [3, 60, 3, 61, 28, 42, 180, 0, 7, 7, 46, 162, 0, 36, 27, 42, 28, 182, 0, 66, 153, 0, 15, 42]
abbrev dktX6_untracked_0 : List UInt8 := dkwX6_untracked_0 ++ dktX6_untracked_1
theorem dksX6_untracked_0 : cX6_untracked.data.toList.drop 0 = dktX6_untracked_0 := by decide +kernel
theorem dksX6_untracked_1 : cX6_untracked.data.toList.drop 24 = dktX6_untracked_1 := dk_seg dksX6_untracked_0 24 rfl rfl
theorem dksX6_untracked_2 : cX6_untracked.data.toList.drop 48 = dktX6_untracked_2 := dk_seg dksX6_untracked_1 24 rfl rfl
theorem dX6_untracked_0 : decode cX6_untracked 0 = .ok (.iconst 0, 1) := dk_3 (dk_at dksX6_untracked_0 0 rfl rfl)
theorem dX6_untracked_1 : decode cX6_untracked 1 = .ok (.istore_n 1, 1) := dk_60 (dk_at dksX6_untracked_0 1 rfl rfl)
theorem dX6_untracked_2 : decode cX6_untracked 2 = .ok (.iconst 0, 1) := dk_3 (dk_at dksX6_untracked_0 2 rfl rfl)
theorem dX6_untracked_3 : decode cX6_untracked 3 = .ok (.istore_n 2, 1) := dk_61 (dk_at dksX6_untracked_0 3 rfl rfl)
theorem dX6_untracked_4 : decode cX6_untracked 4 = .ok (.iload_n 2, 1) := dk_28 (dk_at dksX6_untracked_0 4 rfl rfl)
theorem dX6_untracked_5 : decode cX6_untracked 5 = .ok (.aload_n 0, 1) := dk_42 (dk_at dksX6_untracked_0 5 rfl rfl)
theorem dX6_untracked_6 : decode cX6_untracked 6 = .ok (.getfield 7, 3) := dk_180 0 7 (dk_at dksX6_untracked_0 6 rfl rfl)
theorem dX6_untracked_9 : decode cX6_untracked 9 = .ok (.iconst 4, 1) := dk_7 (dk_at dksX6_untracked_0 9 rfl rfl)
theorem dX6_untracked_10 : decode cX6_untracked 10 = .ok (.iaload, 1) := dk_46 (dk_at dksX6_untracked_0 10 rfl rfl)
theorem dX6_untracked_11 : decode cX6_untracked 11 = .ok (.if_icmp .ge 36, 3) := dk_162 0 36 (dk_at dksX6_untracked_0 11 rfl rfl)
theorem dX6_untracked_14 : decode cX6_untracked 14 = .ok (.iload_n 1, 1) := dk_27 (dk_at dksX6_untracked_0 14 rfl rfl)
theorem dX6_untracked_15 : decode cX6_untracked 15 = .ok (.aload_n 0, 1) := dk_42 (dk_at dksX6_untracked_0 15 rfl rfl)
theorem dX6_untracked_16 : decode cX6_untracked 16 = .ok (.iload_n 2, 1) := dk_28 (dk_at dksX6_untracked_0 16 rfl rfl)
theorem dX6_untracked_17 : decode cX6_untracked 17 = .ok (.invokevirtual 66, 3) := dk_182 0 66 (dk_at dksX6_untracked_0 17 rfl rfl)
theorem dX6_untracked_20 : decode cX6_untracked 20 = .ok (.ifCond .eq 15, 3) := dk_153 0 15 (dk_at dksX6_untracked_0 20 rfl rfl)
theorem dX6_untracked_23 : decode cX6_untracked 23 = .ok (.aload_n 0, 1) := dk_42 (dk_at dksX6_untracked_0 23 rfl rfl)
theorem dX6_untracked_24 : decode cX6_untracked 24 = .ok (.iload_n 2, 1) := dk_28 (dk_at dksX6_untracked_1 0 rfl rfl)
theorem dX6_untracked_25 : decode cX6_untracked 25 = .ok (.invokevirtual 104, 3) := dk_182 0 104 (dk_at dksX6_untracked_1 1 rfl rfl)
theorem dX6_untracked_28 : decode cX6_untracked 28 = .ok (.ifCond .ne 7, 3) := dk_154 0 7 (dk_at dksX6_untracked_1 4 rfl rfl)
theorem dX6_untracked_31 : decode cX6_untracked 31 = .ok (.iconst 1, 1) := dk_4 (dk_at dksX6_untracked_1 7 rfl rfl)
theorem dX6_untracked_32 : decode cX6_untracked 32 = .ok (.goto 4, 3) := dk_167 0 4 (dk_at dksX6_untracked_1 8 rfl rfl)
theorem dX6_untracked_35 : decode cX6_untracked 35 = .ok (.iconst 0, 1) := dk_3 (dk_at dksX6_untracked_1 11 rfl rfl)
theorem dX6_untracked_36 : decode cX6_untracked 36 = .ok (.invokestatic 81, 3) := dk_184 0 81 (dk_at dksX6_untracked_1 12 rfl rfl)
theorem dX6_untracked_39 : decode cX6_untracked 39 = .ok (.iadd, 1) := dk_96 (dk_at dksX6_untracked_1 15 rfl rfl)
theorem dX6_untracked_40 : decode cX6_untracked 40 = .ok (.istore_n 1, 1) := dk_60 (dk_at dksX6_untracked_1 16 rfl rfl)
theorem dX6_untracked_41 : decode cX6_untracked 41 = .ok (.iinc 2 1, 3) := dk_132 2 1 (dk_at dksX6_untracked_1 17 rfl rfl)
theorem dX6_untracked_44 : decode cX6_untracked 44 = .ok (.goto (-40), 3) := dk_167 255 216 (dk_at dksX6_untracked_1 20 rfl rfl)
theorem dX6_untracked_47 : decode cX6_untracked 47 = .ok (.iload_n 1, 1) := dk_27 (dk_at dksX6_untracked_1 23 rfl rfl)
theorem dX6_untracked_48 : decode cX6_untracked 48 = .ok (.ireturn, 1) := dk_172 (dk_at dksX6_untracked_2 0 rfl rfl)
abbrev cX6_lagging : ByteArray := prog_19_method_71_code
def yX6_lagging : MethodName := ⟨RX6, "lagging", "()I"⟩
def dkwX6_lagging_2 : List UInt8 := [172]
abbrev dktX6_lagging_2 : List UInt8 := dkwX6_lagging_2 ++ []
def dkwX6_lagging_1 : List UInt8 := [28, 182, 0, 94, 158, 0, 7, 4, 167, 0, 4, 3, 184, 0, 81, 96, 60, 132, 2, 1, 167, 255, 216, 27]
abbrev dktX6_lagging_1 : List UInt8 := dkwX6_lagging_1 ++ dktX6_lagging_2
def dkwX6_lagging_0 : List UInt8 := [3, 60, 3, 61, 28, 42, 180, 0, 7, 7, 46, 162, 0, 36, 27, 42, 28, 182, 0, 104, 153, 0, 15, 42]
abbrev dktX6_lagging_0 : List UInt8 := dkwX6_lagging_0 ++ dktX6_lagging_1
theorem dksX6_lagging_0 : cX6_lagging.data.toList.drop 0 = dktX6_lagging_0 := by decide +kernel
theorem dksX6_lagging_1 : cX6_lagging.data.toList.drop 24 = dktX6_lagging_1 := dk_seg dksX6_lagging_0 24 rfl rfl
theorem dksX6_lagging_2 : cX6_lagging.data.toList.drop 48 = dktX6_lagging_2 := dk_seg dksX6_lagging_1 24 rfl rfl
theorem dX6_lagging_0 : decode cX6_lagging 0 = .ok (.iconst 0, 1) := dk_3 (dk_at dksX6_lagging_0 0 rfl rfl)
theorem dX6_lagging_1 : decode cX6_lagging 1 = .ok (.istore_n 1, 1) := dk_60 (dk_at dksX6_lagging_0 1 rfl rfl)
theorem dX6_lagging_2 : decode cX6_lagging 2 = .ok (.iconst 0, 1) := dk_3 (dk_at dksX6_lagging_0 2 rfl rfl)
theorem dX6_lagging_3 : decode cX6_lagging 3 = .ok (.istore_n 2, 1) := dk_61 (dk_at dksX6_lagging_0 3 rfl rfl)
theorem dX6_lagging_4 : decode cX6_lagging 4 = .ok (.iload_n 2, 1) := dk_28 (dk_at dksX6_lagging_0 4 rfl rfl)
theorem dX6_lagging_5 : decode cX6_lagging 5 = .ok (.aload_n 0, 1) := dk_42 (dk_at dksX6_lagging_0 5 rfl rfl)
theorem dX6_lagging_6 : decode cX6_lagging 6 = .ok (.getfield 7, 3) := dk_180 0 7 (dk_at dksX6_lagging_0 6 rfl rfl)
theorem dX6_lagging_9 : decode cX6_lagging 9 = .ok (.iconst 4, 1) := dk_7 (dk_at dksX6_lagging_0 9 rfl rfl)
theorem dX6_lagging_10 : decode cX6_lagging 10 = .ok (.iaload, 1) := dk_46 (dk_at dksX6_lagging_0 10 rfl rfl)
theorem dX6_lagging_11 : decode cX6_lagging 11 = .ok (.if_icmp .ge 36, 3) := dk_162 0 36 (dk_at dksX6_lagging_0 11 rfl rfl)
theorem dX6_lagging_14 : decode cX6_lagging 14 = .ok (.iload_n 1, 1) := dk_27 (dk_at dksX6_lagging_0 14 rfl rfl)
theorem dX6_lagging_15 : decode cX6_lagging 15 = .ok (.aload_n 0, 1) := dk_42 (dk_at dksX6_lagging_0 15 rfl rfl)
theorem dX6_lagging_16 : decode cX6_lagging 16 = .ok (.iload_n 2, 1) := dk_28 (dk_at dksX6_lagging_0 16 rfl rfl)
theorem dX6_lagging_17 : decode cX6_lagging 17 = .ok (.invokevirtual 104, 3) := dk_182 0 104 (dk_at dksX6_lagging_0 17 rfl rfl)
theorem dX6_lagging_20 : decode cX6_lagging 20 = .ok (.ifCond .eq 15, 3) := dk_153 0 15 (dk_at dksX6_lagging_0 20 rfl rfl)
theorem dX6_lagging_23 : decode cX6_lagging 23 = .ok (.aload_n 0, 1) := dk_42 (dk_at dksX6_lagging_0 23 rfl rfl)
theorem dX6_lagging_24 : decode cX6_lagging 24 = .ok (.iload_n 2, 1) := dk_28 (dk_at dksX6_lagging_1 0 rfl rfl)
theorem dX6_lagging_25 : decode cX6_lagging 25 = .ok (.invokevirtual 94, 3) := dk_182 0 94 (dk_at dksX6_lagging_1 1 rfl rfl)
theorem dX6_lagging_28 : decode cX6_lagging 28 = .ok (.ifCond .le 7, 3) := dk_158 0 7 (dk_at dksX6_lagging_1 4 rfl rfl)
theorem dX6_lagging_31 : decode cX6_lagging 31 = .ok (.iconst 1, 1) := dk_4 (dk_at dksX6_lagging_1 7 rfl rfl)
theorem dX6_lagging_32 : decode cX6_lagging 32 = .ok (.goto 4, 3) := dk_167 0 4 (dk_at dksX6_lagging_1 8 rfl rfl)
theorem dX6_lagging_35 : decode cX6_lagging 35 = .ok (.iconst 0, 1) := dk_3 (dk_at dksX6_lagging_1 11 rfl rfl)
theorem dX6_lagging_36 : decode cX6_lagging 36 = .ok (.invokestatic 81, 3) := dk_184 0 81 (dk_at dksX6_lagging_1 12 rfl rfl)
theorem dX6_lagging_39 : decode cX6_lagging 39 = .ok (.iadd, 1) := dk_96 (dk_at dksX6_lagging_1 15 rfl rfl)
theorem dX6_lagging_40 : decode cX6_lagging 40 = .ok (.istore_n 1, 1) := dk_60 (dk_at dksX6_lagging_1 16 rfl rfl)
theorem dX6_lagging_41 : decode cX6_lagging 41 = .ok (.iinc 2 1, 3) := dk_132 2 1 (dk_at dksX6_lagging_1 17 rfl rfl)
theorem dX6_lagging_44 : decode cX6_lagging 44 = .ok (.goto (-40), 3) := dk_167 255 216 (dk_at dksX6_lagging_1 20 rfl rfl)
theorem dX6_lagging_47 : decode cX6_lagging 47 = .ok (.iload_n 1, 1) := dk_27 (dk_at dksX6_lagging_1 23 rfl rfl)
theorem dX6_lagging_48 : decode cX6_lagging 48 = .ok (.ireturn, 1) := dk_172 (dk_at dksX6_lagging_2 0 rfl rfl)
abbrev cX6_account : ByteArray := prog_19_method_73_code
def yX6_account : MethodName := ⟨RX6, "account", "(I)I"⟩
def dkwX6_account_1 : List UInt8 := [182, 1, 58, 153, 0, 7, 3, 167, 0, 12, 42, 180, 0, 7, 16, 7, 27, 96, 46, 172]
abbrev dktX6_account_1 : List UInt8 := dkwX6_account_1 ++ []
def dkwX6_account_0 : List UInt8 := [42, 3, 181, 0, 55, 42, 27, 3, 16, 11, 184, 0, 152, 154, 0, 7, 4, 167, 0, 4, 3, 4]
abbrev dktX6_account_0 : List UInt8 := dkwX6_account_0 ++ dktX6_account_1
theorem dksX6_account_0 : cX6_account.data.toList.drop 0 = dktX6_account_0 := by decide +kernel
theorem dksX6_account_1 : cX6_account.data.toList.drop 22 = dktX6_account_1 := dk_seg dksX6_account_0 22 rfl rfl
theorem dX6_account_0 : decode cX6_account 0 = .ok (.aload_n 0, 1) := dk_42 (dk_at dksX6_account_0 0 rfl rfl)
theorem dX6_account_1 : decode cX6_account 1 = .ok (.iconst 0, 1) := dk_3 (dk_at dksX6_account_0 1 rfl rfl)
theorem dX6_account_2 : decode cX6_account 2 = .ok (.putfield 55, 3) := dk_181 0 55 (dk_at dksX6_account_0 2 rfl rfl)
theorem dX6_account_5 : decode cX6_account 5 = .ok (.aload_n 0, 1) := dk_42 (dk_at dksX6_account_0 5 rfl rfl)
theorem dX6_account_6 : decode cX6_account 6 = .ok (.iload_n 1, 1) := dk_27 (dk_at dksX6_account_0 6 rfl rfl)
theorem dX6_account_7 : decode cX6_account 7 = .ok (.iconst 0, 1) := dk_3 (dk_at dksX6_account_0 7 rfl rfl)
theorem dX6_account_8 : decode cX6_account 8 = .ok (.bipush 11, 2) := dk_16 11 (dk_at dksX6_account_0 8 rfl rfl)
theorem dX6_account_10 : decode cX6_account 10 = .ok (.invokestatic 152, 3) := dk_184 0 152 (dk_at dksX6_account_0 10 rfl rfl)
theorem dX6_account_13 : decode cX6_account 13 = .ok (.ifCond .ne 7, 3) := dk_154 0 7 (dk_at dksX6_account_0 13 rfl rfl)
theorem dX6_account_16 : decode cX6_account 16 = .ok (.iconst 1, 1) := dk_4 (dk_at dksX6_account_0 16 rfl rfl)
theorem dX6_account_17 : decode cX6_account 17 = .ok (.goto 4, 3) := dk_167 0 4 (dk_at dksX6_account_0 17 rfl rfl)
theorem dX6_account_20 : decode cX6_account 20 = .ok (.iconst 0, 1) := dk_3 (dk_at dksX6_account_0 20 rfl rfl)
theorem dX6_account_21 : decode cX6_account 21 = .ok (.iconst 1, 1) := dk_4 (dk_at dksX6_account_0 21 rfl rfl)
theorem dX6_account_22 : decode cX6_account 22 = .ok (.invokevirtual 314, 3) := dk_182 1 58 (dk_at dksX6_account_1 0 rfl rfl)
theorem dX6_account_25 : decode cX6_account 25 = .ok (.ifCond .eq 7, 3) := dk_153 0 7 (dk_at dksX6_account_1 3 rfl rfl)
theorem dX6_account_28 : decode cX6_account 28 = .ok (.iconst 0, 1) := dk_3 (dk_at dksX6_account_1 6 rfl rfl)
theorem dX6_account_29 : decode cX6_account 29 = .ok (.goto 12, 3) := dk_167 0 12 (dk_at dksX6_account_1 7 rfl rfl)
theorem dX6_account_32 : decode cX6_account 32 = .ok (.aload_n 0, 1) := dk_42 (dk_at dksX6_account_1 10 rfl rfl)
theorem dX6_account_33 : decode cX6_account 33 = .ok (.getfield 7, 3) := dk_180 0 7 (dk_at dksX6_account_1 11 rfl rfl)
theorem dX6_account_36 : decode cX6_account 36 = .ok (.bipush 7, 2) := dk_16 7 (dk_at dksX6_account_1 14 rfl rfl)
theorem dX6_account_38 : decode cX6_account 38 = .ok (.iload_n 1, 1) := dk_27 (dk_at dksX6_account_1 16 rfl rfl)
theorem dX6_account_39 : decode cX6_account 39 = .ok (.iadd, 1) := dk_96 (dk_at dksX6_account_1 17 rfl rfl)
theorem dX6_account_40 : decode cX6_account 40 = .ok (.iaload, 1) := dk_46 (dk_at dksX6_account_1 18 rfl rfl)
theorem dX6_account_41 : decode cX6_account 41 = .ok (.ireturn, 1) := dk_172 (dk_at dksX6_account_1 19 rfl rfl)
abbrev cX6_cell : ByteArray := prog_19_method_79_code
def yX6_cell : MethodName := ⟨RX6, "cell", "(II)I"⟩
def dkwX6_cell_4 : List UInt8 := [182, 0, 218, 172]
abbrev dktX6_cell_4 : List UInt8 := dkwX6_cell_4 ++ []
def dkwX6_cell_3 : List UInt8 := [42, 27, 182, 0, 101, 172, 42, 27, 182, 1, 71, 172, 42, 27, 182, 0, 120, 184, 0, 81, 172, 42, 27]
abbrev dktX6_cell_3 : List UInt8 := dkwX6_cell_3 ++ dktX6_cell_4
def dkwX6_cell_2 : List UInt8 := [170, 0, 0, 0, 0, 47, 0, 0, 0, 0, 0, 0, 0, 2, 0, 0, 0, 26, 0, 0, 0, 32, 0, 0, 0, 38]
abbrev dktX6_cell_2 : List UInt8 := dkwX6_cell_2 ++ dktX6_cell_3
def dkwX6_cell_1 : List UInt8 := [167, 0, 4, 3, 5, 182, 1, 58, 153, 0, 5, 3, 172, 28]
abbrev dktX6_cell_1 : List UInt8 := dkwX6_cell_1 ++ dktX6_cell_2
def dkwX6_cell_0 : List UInt8 := [42, 3, 181, 0, 55, 42, 27, 182, 1, 68, 154, 0, 25, 42, 28, 3, 6, 184, 0, 152, 154, 0, 7, 4]
abbrev dktX6_cell_0 : List UInt8 := dkwX6_cell_0 ++ dktX6_cell_1
theorem dksX6_cell_0 : cX6_cell.data.toList.drop 0 = dktX6_cell_0 := by decide +kernel
theorem dksX6_cell_1 : cX6_cell.data.toList.drop 24 = dktX6_cell_1 := dk_seg dksX6_cell_0 24 rfl rfl
theorem dksX6_cell_2 : cX6_cell.data.toList.drop 38 = dktX6_cell_2 := dk_seg dksX6_cell_1 14 rfl rfl
theorem dksX6_cell_3 : cX6_cell.data.toList.drop 64 = dktX6_cell_3 := dk_seg dksX6_cell_2 26 rfl rfl
theorem dksX6_cell_4 : cX6_cell.data.toList.drop 87 = dktX6_cell_4 := dk_seg dksX6_cell_3 23 rfl rfl
theorem dX6_cell_0 : decode cX6_cell 0 = .ok (.aload_n 0, 1) := dk_42 (dk_at dksX6_cell_0 0 rfl rfl)
theorem dX6_cell_1 : decode cX6_cell 1 = .ok (.iconst 0, 1) := dk_3 (dk_at dksX6_cell_0 1 rfl rfl)
theorem dX6_cell_2 : decode cX6_cell 2 = .ok (.putfield 55, 3) := dk_181 0 55 (dk_at dksX6_cell_0 2 rfl rfl)
theorem dX6_cell_5 : decode cX6_cell 5 = .ok (.aload_n 0, 1) := dk_42 (dk_at dksX6_cell_0 5 rfl rfl)
theorem dX6_cell_6 : decode cX6_cell 6 = .ok (.iload_n 1, 1) := dk_27 (dk_at dksX6_cell_0 6 rfl rfl)
theorem dX6_cell_7 : decode cX6_cell 7 = .ok (.invokevirtual 324, 3) := dk_182 1 68 (dk_at dksX6_cell_0 7 rfl rfl)
theorem dX6_cell_10 : decode cX6_cell 10 = .ok (.ifCond .ne 25, 3) := dk_154 0 25 (dk_at dksX6_cell_0 10 rfl rfl)
theorem dX6_cell_13 : decode cX6_cell 13 = .ok (.aload_n 0, 1) := dk_42 (dk_at dksX6_cell_0 13 rfl rfl)
theorem dX6_cell_14 : decode cX6_cell 14 = .ok (.iload_n 2, 1) := dk_28 (dk_at dksX6_cell_0 14 rfl rfl)
theorem dX6_cell_15 : decode cX6_cell 15 = .ok (.iconst 0, 1) := dk_3 (dk_at dksX6_cell_0 15 rfl rfl)
theorem dX6_cell_16 : decode cX6_cell 16 = .ok (.iconst 3, 1) := dk_6 (dk_at dksX6_cell_0 16 rfl rfl)
theorem dX6_cell_17 : decode cX6_cell 17 = .ok (.invokestatic 152, 3) := dk_184 0 152 (dk_at dksX6_cell_0 17 rfl rfl)
theorem dX6_cell_20 : decode cX6_cell 20 = .ok (.ifCond .ne 7, 3) := dk_154 0 7 (dk_at dksX6_cell_0 20 rfl rfl)
theorem dX6_cell_23 : decode cX6_cell 23 = .ok (.iconst 1, 1) := dk_4 (dk_at dksX6_cell_0 23 rfl rfl)
theorem dX6_cell_24 : decode cX6_cell 24 = .ok (.goto 4, 3) := dk_167 0 4 (dk_at dksX6_cell_1 0 rfl rfl)
theorem dX6_cell_27 : decode cX6_cell 27 = .ok (.iconst 0, 1) := dk_3 (dk_at dksX6_cell_1 3 rfl rfl)
theorem dX6_cell_28 : decode cX6_cell 28 = .ok (.iconst 2, 1) := dk_5 (dk_at dksX6_cell_1 4 rfl rfl)
theorem dX6_cell_29 : decode cX6_cell 29 = .ok (.invokevirtual 314, 3) := dk_182 1 58 (dk_at dksX6_cell_1 5 rfl rfl)
theorem dX6_cell_32 : decode cX6_cell 32 = .ok (.ifCond .eq 5, 3) := dk_153 0 5 (dk_at dksX6_cell_1 8 rfl rfl)
theorem dX6_cell_35 : decode cX6_cell 35 = .ok (.iconst 0, 1) := dk_3 (dk_at dksX6_cell_1 11 rfl rfl)
theorem dX6_cell_36 : decode cX6_cell 36 = .ok (.ireturn, 1) := dk_172 (dk_at dksX6_cell_1 12 rfl rfl)
theorem dX6_cell_37 : decode cX6_cell 37 = .ok (.iload_n 2, 1) := dk_28 (dk_at dksX6_cell_1 13 rfl rfl)
theorem dX6_cell_38 : decode cX6_cell 38 = .ok (.tableswitch 47 0 2 #[26, 32, 38], 26) := by decide +kernel
theorem dX6_cell_64 : decode cX6_cell 64 = .ok (.aload_n 0, 1) := dk_42 (dk_at dksX6_cell_3 0 rfl rfl)
theorem dX6_cell_65 : decode cX6_cell 65 = .ok (.iload_n 1, 1) := dk_27 (dk_at dksX6_cell_3 1 rfl rfl)
theorem dX6_cell_66 : decode cX6_cell 66 = .ok (.invokevirtual 101, 3) := dk_182 0 101 (dk_at dksX6_cell_3 2 rfl rfl)
theorem dX6_cell_69 : decode cX6_cell 69 = .ok (.ireturn, 1) := dk_172 (dk_at dksX6_cell_3 5 rfl rfl)
theorem dX6_cell_70 : decode cX6_cell 70 = .ok (.aload_n 0, 1) := dk_42 (dk_at dksX6_cell_3 6 rfl rfl)
theorem dX6_cell_71 : decode cX6_cell 71 = .ok (.iload_n 1, 1) := dk_27 (dk_at dksX6_cell_3 7 rfl rfl)
theorem dX6_cell_72 : decode cX6_cell 72 = .ok (.invokevirtual 327, 3) := dk_182 1 71 (dk_at dksX6_cell_3 8 rfl rfl)
theorem dX6_cell_75 : decode cX6_cell 75 = .ok (.ireturn, 1) := dk_172 (dk_at dksX6_cell_3 11 rfl rfl)
theorem dX6_cell_76 : decode cX6_cell 76 = .ok (.aload_n 0, 1) := dk_42 (dk_at dksX6_cell_3 12 rfl rfl)
theorem dX6_cell_77 : decode cX6_cell 77 = .ok (.iload_n 1, 1) := dk_27 (dk_at dksX6_cell_3 13 rfl rfl)
theorem dX6_cell_78 : decode cX6_cell 78 = .ok (.invokevirtual 120, 3) := dk_182 0 120 (dk_at dksX6_cell_3 14 rfl rfl)
theorem dX6_cell_81 : decode cX6_cell 81 = .ok (.invokestatic 81, 3) := dk_184 0 81 (dk_at dksX6_cell_3 17 rfl rfl)
theorem dX6_cell_84 : decode cX6_cell 84 = .ok (.ireturn, 1) := dk_172 (dk_at dksX6_cell_3 20 rfl rfl)
theorem dX6_cell_85 : decode cX6_cell 85 = .ok (.aload_n 0, 1) := dk_42 (dk_at dksX6_cell_3 21 rfl rfl)
theorem dX6_cell_86 : decode cX6_cell 86 = .ok (.iload_n 1, 1) := dk_27 (dk_at dksX6_cell_3 22 rfl rfl)
theorem dX6_cell_87 : decode cX6_cell 87 = .ok (.invokevirtual 218, 3) := dk_182 0 218 (dk_at dksX6_cell_4 0 rfl rfl)
theorem dX6_cell_90 : decode cX6_cell 90 = .ok (.ireturn, 1) := dk_172 (dk_at dksX6_cell_4 3 rfl rfl)
abbrev cX6_noCell : ByteArray := prog_19_method_74_code
def yX6_noCell : MethodName := ⟨RX6, "noCell", "(I)Z"⟩
def dkwX6_noCell_1 : List UInt8 := [182, 1, 58, 172]
abbrev dktX6_noCell_1 : List UInt8 := dkwX6_noCell_1 ++ []
def dkwX6_noCell_0 : List UInt8 := [42, 27, 3, 42, 180, 0, 7, 3, 46, 4, 100, 184, 0, 152, 154, 0, 7, 4, 167, 0, 4, 3, 4]
abbrev dktX6_noCell_0 : List UInt8 := dkwX6_noCell_0 ++ dktX6_noCell_1
theorem dksX6_noCell_0 : cX6_noCell.data.toList.drop 0 = dktX6_noCell_0 := by decide +kernel
theorem dksX6_noCell_1 : cX6_noCell.data.toList.drop 23 = dktX6_noCell_1 := dk_seg dksX6_noCell_0 23 rfl rfl
theorem dX6_noCell_0 : decode cX6_noCell 0 = .ok (.aload_n 0, 1) := dk_42 (dk_at dksX6_noCell_0 0 rfl rfl)
theorem dX6_noCell_1 : decode cX6_noCell 1 = .ok (.iload_n 1, 1) := dk_27 (dk_at dksX6_noCell_0 1 rfl rfl)
theorem dX6_noCell_2 : decode cX6_noCell 2 = .ok (.iconst 0, 1) := dk_3 (dk_at dksX6_noCell_0 2 rfl rfl)
theorem dX6_noCell_3 : decode cX6_noCell 3 = .ok (.aload_n 0, 1) := dk_42 (dk_at dksX6_noCell_0 3 rfl rfl)
theorem dX6_noCell_4 : decode cX6_noCell 4 = .ok (.getfield 7, 3) := dk_180 0 7 (dk_at dksX6_noCell_0 4 rfl rfl)
theorem dX6_noCell_7 : decode cX6_noCell 7 = .ok (.iconst 0, 1) := dk_3 (dk_at dksX6_noCell_0 7 rfl rfl)
theorem dX6_noCell_8 : decode cX6_noCell 8 = .ok (.iaload, 1) := dk_46 (dk_at dksX6_noCell_0 8 rfl rfl)
theorem dX6_noCell_9 : decode cX6_noCell 9 = .ok (.iconst 1, 1) := dk_4 (dk_at dksX6_noCell_0 9 rfl rfl)
theorem dX6_noCell_10 : decode cX6_noCell 10 = .ok (.isub, 1) := dk_100 (dk_at dksX6_noCell_0 10 rfl rfl)
theorem dX6_noCell_11 : decode cX6_noCell 11 = .ok (.invokestatic 152, 3) := dk_184 0 152 (dk_at dksX6_noCell_0 11 rfl rfl)
theorem dX6_noCell_14 : decode cX6_noCell 14 = .ok (.ifCond .ne 7, 3) := dk_154 0 7 (dk_at dksX6_noCell_0 14 rfl rfl)
theorem dX6_noCell_17 : decode cX6_noCell 17 = .ok (.iconst 1, 1) := dk_4 (dk_at dksX6_noCell_0 17 rfl rfl)
theorem dX6_noCell_18 : decode cX6_noCell 18 = .ok (.goto 4, 3) := dk_167 0 4 (dk_at dksX6_noCell_0 18 rfl rfl)
theorem dX6_noCell_21 : decode cX6_noCell 21 = .ok (.iconst 0, 1) := dk_3 (dk_at dksX6_noCell_0 21 rfl rfl)
theorem dX6_noCell_22 : decode cX6_noCell 22 = .ok (.iconst 1, 1) := dk_4 (dk_at dksX6_noCell_0 22 rfl rfl)
theorem dX6_noCell_23 : decode cX6_noCell 23 = .ok (.invokevirtual 314, 3) := dk_182 1 58 (dk_at dksX6_noCell_1 0 rfl rfl)
theorem dX6_noCell_26 : decode cX6_noCell 26 = .ok (.ireturn, 1) := dk_172 (dk_at dksX6_noCell_1 3 rfl rfl)
abbrev cX6_tracksAt : ByteArray := prog_19_method_78_code
def yX6_tracksAt : MethodName := ⟨RX6, "tracksAt", "(I)I"⟩
def dkwX6_tracksAt_2 : List UInt8 := [167, 255, 213, 28, 172]
abbrev dktX6_tracksAt_2 : List UInt8 := dkwX6_tracksAt_2 ++ []
def dkwX6_tracksAt_1 : List UInt8 := [29, 16, 6, 182, 0, 62, 27, 160, 0, 7, 4, 167, 0, 4, 3, 184, 0, 81, 96, 61, 132, 3, 1]
abbrev dktX6_tracksAt_1 : List UInt8 := dkwX6_tracksAt_1 ++ dktX6_tracksAt_2
def dkwX6_tracksAt_0 : List UInt8 := [3, 61, 3, 62, 29, 42, 180, 0, 7, 7, 46, 162, 0, 39, 28, 42, 29, 182, 0, 104, 153, 0, 18, 42]
abbrev dktX6_tracksAt_0 : List UInt8 := dkwX6_tracksAt_0 ++ dktX6_tracksAt_1
theorem dksX6_tracksAt_0 : cX6_tracksAt.data.toList.drop 0 = dktX6_tracksAt_0 := by decide +kernel
theorem dksX6_tracksAt_1 : cX6_tracksAt.data.toList.drop 24 = dktX6_tracksAt_1 := dk_seg dksX6_tracksAt_0 24 rfl rfl
theorem dksX6_tracksAt_2 : cX6_tracksAt.data.toList.drop 47 = dktX6_tracksAt_2 := dk_seg dksX6_tracksAt_1 23 rfl rfl
theorem dX6_tracksAt_0 : decode cX6_tracksAt 0 = .ok (.iconst 0, 1) := dk_3 (dk_at dksX6_tracksAt_0 0 rfl rfl)
theorem dX6_tracksAt_1 : decode cX6_tracksAt 1 = .ok (.istore_n 2, 1) := dk_61 (dk_at dksX6_tracksAt_0 1 rfl rfl)
theorem dX6_tracksAt_2 : decode cX6_tracksAt 2 = .ok (.iconst 0, 1) := dk_3 (dk_at dksX6_tracksAt_0 2 rfl rfl)
theorem dX6_tracksAt_3 : decode cX6_tracksAt 3 = .ok (.istore_n 3, 1) := dk_62 (dk_at dksX6_tracksAt_0 3 rfl rfl)
theorem dX6_tracksAt_4 : decode cX6_tracksAt 4 = .ok (.iload_n 3, 1) := dk_29 (dk_at dksX6_tracksAt_0 4 rfl rfl)
theorem dX6_tracksAt_5 : decode cX6_tracksAt 5 = .ok (.aload_n 0, 1) := dk_42 (dk_at dksX6_tracksAt_0 5 rfl rfl)
theorem dX6_tracksAt_6 : decode cX6_tracksAt 6 = .ok (.getfield 7, 3) := dk_180 0 7 (dk_at dksX6_tracksAt_0 6 rfl rfl)
theorem dX6_tracksAt_9 : decode cX6_tracksAt 9 = .ok (.iconst 4, 1) := dk_7 (dk_at dksX6_tracksAt_0 9 rfl rfl)
theorem dX6_tracksAt_10 : decode cX6_tracksAt 10 = .ok (.iaload, 1) := dk_46 (dk_at dksX6_tracksAt_0 10 rfl rfl)
theorem dX6_tracksAt_11 : decode cX6_tracksAt 11 = .ok (.if_icmp .ge 39, 3) := dk_162 0 39 (dk_at dksX6_tracksAt_0 11 rfl rfl)
theorem dX6_tracksAt_14 : decode cX6_tracksAt 14 = .ok (.iload_n 2, 1) := dk_28 (dk_at dksX6_tracksAt_0 14 rfl rfl)
theorem dX6_tracksAt_15 : decode cX6_tracksAt 15 = .ok (.aload_n 0, 1) := dk_42 (dk_at dksX6_tracksAt_0 15 rfl rfl)
theorem dX6_tracksAt_16 : decode cX6_tracksAt 16 = .ok (.iload_n 3, 1) := dk_29 (dk_at dksX6_tracksAt_0 16 rfl rfl)
theorem dX6_tracksAt_17 : decode cX6_tracksAt 17 = .ok (.invokevirtual 104, 3) := dk_182 0 104 (dk_at dksX6_tracksAt_0 17 rfl rfl)
theorem dX6_tracksAt_20 : decode cX6_tracksAt 20 = .ok (.ifCond .eq 18, 3) := dk_153 0 18 (dk_at dksX6_tracksAt_0 20 rfl rfl)
theorem dX6_tracksAt_23 : decode cX6_tracksAt 23 = .ok (.aload_n 0, 1) := dk_42 (dk_at dksX6_tracksAt_0 23 rfl rfl)
theorem dX6_tracksAt_24 : decode cX6_tracksAt 24 = .ok (.iload_n 3, 1) := dk_29 (dk_at dksX6_tracksAt_1 0 rfl rfl)
theorem dX6_tracksAt_25 : decode cX6_tracksAt 25 = .ok (.bipush 6, 2) := dk_16 6 (dk_at dksX6_tracksAt_1 1 rfl rfl)
theorem dX6_tracksAt_27 : decode cX6_tracksAt 27 = .ok (.invokevirtual 62, 3) := dk_182 0 62 (dk_at dksX6_tracksAt_1 3 rfl rfl)
theorem dX6_tracksAt_30 : decode cX6_tracksAt 30 = .ok (.iload_n 1, 1) := dk_27 (dk_at dksX6_tracksAt_1 6 rfl rfl)
theorem dX6_tracksAt_31 : decode cX6_tracksAt 31 = .ok (.if_icmp .ne 7, 3) := dk_160 0 7 (dk_at dksX6_tracksAt_1 7 rfl rfl)
theorem dX6_tracksAt_34 : decode cX6_tracksAt 34 = .ok (.iconst 1, 1) := dk_4 (dk_at dksX6_tracksAt_1 10 rfl rfl)
theorem dX6_tracksAt_35 : decode cX6_tracksAt 35 = .ok (.goto 4, 3) := dk_167 0 4 (dk_at dksX6_tracksAt_1 11 rfl rfl)
theorem dX6_tracksAt_38 : decode cX6_tracksAt 38 = .ok (.iconst 0, 1) := dk_3 (dk_at dksX6_tracksAt_1 14 rfl rfl)
theorem dX6_tracksAt_39 : decode cX6_tracksAt 39 = .ok (.invokestatic 81, 3) := dk_184 0 81 (dk_at dksX6_tracksAt_1 15 rfl rfl)
theorem dX6_tracksAt_42 : decode cX6_tracksAt 42 = .ok (.iadd, 1) := dk_96 (dk_at dksX6_tracksAt_1 18 rfl rfl)
theorem dX6_tracksAt_43 : decode cX6_tracksAt 43 = .ok (.istore_n 2, 1) := dk_61 (dk_at dksX6_tracksAt_1 19 rfl rfl)
theorem dX6_tracksAt_44 : decode cX6_tracksAt 44 = .ok (.iinc 3 1, 3) := dk_132 3 1 (dk_at dksX6_tracksAt_1 20 rfl rfl)
theorem dX6_tracksAt_47 : decode cX6_tracksAt 47 = .ok (.goto (-43), 3) := dk_167 255 213 (dk_at dksX6_tracksAt_2 0 rfl rfl)
theorem dX6_tracksAt_50 : decode cX6_tracksAt 50 = .ok (.iload_n 2, 1) := dk_28 (dk_at dksX6_tracksAt_2 3 rfl rfl)
theorem dX6_tracksAt_51 : decode cX6_tracksAt 51 = .ok (.ireturn, 1) := dk_172 (dk_at dksX6_tracksAt_2 4 rfl rfl)
abbrev cX6_parcel : ByteArray := prog_19_method_80_code
def yX6_parcel : MethodName := ⟨RX6, "parcel", "(II)I"⟩
def dkwX6_parcel_6 : List UInt8 := [172, 42, 27, 28, 182, 0, 62, 172]
abbrev dktX6_parcel_6 : List UInt8 := dkwX6_parcel_6 ++ []
def dkwX6_parcel_5 : List UInt8 := [27, 182, 0, 94, 167, 0, 4, 2, 172, 42, 27, 16, 7, 182, 0, 62, 172, 42, 27, 16, 8, 182, 0, 62]
abbrev dktX6_parcel_5 : List UInt8 := dkwX6_parcel_5 ++ dktX6_parcel_6
def dkwX6_parcel_4 : List UInt8 := [153, 0, 13, 42, 27, 16, 6, 182, 0, 62, 167, 0, 4, 2, 172, 42, 27, 182, 0, 104, 153, 0, 11, 42]
abbrev dktX6_parcel_4 : List UInt8 := dkwX6_parcel_4 ++ dktX6_parcel_5
def dkwX6_parcel_3 : List UInt8 := [42, 27, 182, 0, 66, 153, 0, 12, 42, 27, 7, 182, 0, 62, 167, 0, 4, 2, 172, 42, 27, 182, 0, 104]
abbrev dktX6_parcel_3 : List UInt8 := dkwX6_parcel_3 ++ dktX6_parcel_4
def dkwX6_parcel_2 : List UInt8 := [170, 0, 0, 0, 106, 0, 0, 0, 4, 0, 0, 0, 8, 0, 0, 0, 33, 0, 0, 0, 52, 0, 0, 0, 72, 0, 0, 0, 90, 0, 0, 0, 98]
abbrev dktX6_parcel_2 : List UInt8 := dkwX6_parcel_2 ++ dktX6_parcel_3
def dkwX6_parcel_1 : List UInt8 := [4, 167, 0, 4, 3, 5, 182, 1, 58, 153, 0, 5, 3, 172, 28]
abbrev dktX6_parcel_1 : List UInt8 := dkwX6_parcel_1 ++ dktX6_parcel_2
def dkwX6_parcel_0 : List UInt8 := [42, 3, 181, 0, 55, 42, 27, 182, 1, 74, 154, 0, 26, 42, 28, 3, 16, 8, 184, 0, 152, 154, 0, 7]
abbrev dktX6_parcel_0 : List UInt8 := dkwX6_parcel_0 ++ dktX6_parcel_1
theorem dksX6_parcel_0 : cX6_parcel.data.toList.drop 0 = dktX6_parcel_0 := by decide +kernel
theorem dksX6_parcel_1 : cX6_parcel.data.toList.drop 24 = dktX6_parcel_1 := dk_seg dksX6_parcel_0 24 rfl rfl
theorem dksX6_parcel_2 : cX6_parcel.data.toList.drop 39 = dktX6_parcel_2 := dk_seg dksX6_parcel_1 15 rfl rfl
theorem dksX6_parcel_3 : cX6_parcel.data.toList.drop 72 = dktX6_parcel_3 := dk_seg dksX6_parcel_2 33 rfl rfl
theorem dksX6_parcel_4 : cX6_parcel.data.toList.drop 96 = dktX6_parcel_4 := dk_seg dksX6_parcel_3 24 rfl rfl
theorem dksX6_parcel_5 : cX6_parcel.data.toList.drop 120 = dktX6_parcel_5 := dk_seg dksX6_parcel_4 24 rfl rfl
theorem dksX6_parcel_6 : cX6_parcel.data.toList.drop 144 = dktX6_parcel_6 := dk_seg dksX6_parcel_5 24 rfl rfl
theorem dX6_parcel_0 : decode cX6_parcel 0 = .ok (.aload_n 0, 1) := dk_42 (dk_at dksX6_parcel_0 0 rfl rfl)
theorem dX6_parcel_1 : decode cX6_parcel 1 = .ok (.iconst 0, 1) := dk_3 (dk_at dksX6_parcel_0 1 rfl rfl)
theorem dX6_parcel_2 : decode cX6_parcel 2 = .ok (.putfield 55, 3) := dk_181 0 55 (dk_at dksX6_parcel_0 2 rfl rfl)
theorem dX6_parcel_5 : decode cX6_parcel 5 = .ok (.aload_n 0, 1) := dk_42 (dk_at dksX6_parcel_0 5 rfl rfl)
theorem dX6_parcel_6 : decode cX6_parcel 6 = .ok (.iload_n 1, 1) := dk_27 (dk_at dksX6_parcel_0 6 rfl rfl)
theorem dX6_parcel_7 : decode cX6_parcel 7 = .ok (.invokevirtual 330, 3) := dk_182 1 74 (dk_at dksX6_parcel_0 7 rfl rfl)
theorem dX6_parcel_10 : decode cX6_parcel 10 = .ok (.ifCond .ne 26, 3) := dk_154 0 26 (dk_at dksX6_parcel_0 10 rfl rfl)
theorem dX6_parcel_13 : decode cX6_parcel 13 = .ok (.aload_n 0, 1) := dk_42 (dk_at dksX6_parcel_0 13 rfl rfl)
theorem dX6_parcel_14 : decode cX6_parcel 14 = .ok (.iload_n 2, 1) := dk_28 (dk_at dksX6_parcel_0 14 rfl rfl)
theorem dX6_parcel_15 : decode cX6_parcel 15 = .ok (.iconst 0, 1) := dk_3 (dk_at dksX6_parcel_0 15 rfl rfl)
theorem dX6_parcel_16 : decode cX6_parcel 16 = .ok (.bipush 8, 2) := dk_16 8 (dk_at dksX6_parcel_0 16 rfl rfl)
theorem dX6_parcel_18 : decode cX6_parcel 18 = .ok (.invokestatic 152, 3) := dk_184 0 152 (dk_at dksX6_parcel_0 18 rfl rfl)
theorem dX6_parcel_21 : decode cX6_parcel 21 = .ok (.ifCond .ne 7, 3) := dk_154 0 7 (dk_at dksX6_parcel_0 21 rfl rfl)
theorem dX6_parcel_24 : decode cX6_parcel 24 = .ok (.iconst 1, 1) := dk_4 (dk_at dksX6_parcel_1 0 rfl rfl)
theorem dX6_parcel_25 : decode cX6_parcel 25 = .ok (.goto 4, 3) := dk_167 0 4 (dk_at dksX6_parcel_1 1 rfl rfl)
theorem dX6_parcel_28 : decode cX6_parcel 28 = .ok (.iconst 0, 1) := dk_3 (dk_at dksX6_parcel_1 4 rfl rfl)
theorem dX6_parcel_29 : decode cX6_parcel 29 = .ok (.iconst 2, 1) := dk_5 (dk_at dksX6_parcel_1 5 rfl rfl)
theorem dX6_parcel_30 : decode cX6_parcel 30 = .ok (.invokevirtual 314, 3) := dk_182 1 58 (dk_at dksX6_parcel_1 6 rfl rfl)
theorem dX6_parcel_33 : decode cX6_parcel 33 = .ok (.ifCond .eq 5, 3) := dk_153 0 5 (dk_at dksX6_parcel_1 9 rfl rfl)
theorem dX6_parcel_36 : decode cX6_parcel 36 = .ok (.iconst 0, 1) := dk_3 (dk_at dksX6_parcel_1 12 rfl rfl)
theorem dX6_parcel_37 : decode cX6_parcel 37 = .ok (.ireturn, 1) := dk_172 (dk_at dksX6_parcel_1 13 rfl rfl)
theorem dX6_parcel_38 : decode cX6_parcel 38 = .ok (.iload_n 2, 1) := dk_28 (dk_at dksX6_parcel_1 14 rfl rfl)
theorem dX6_parcel_39 : decode cX6_parcel 39 = .ok (.tableswitch 106 4 8 #[33, 52, 72, 90, 98], 33) := by decide +kernel
theorem dX6_parcel_72 : decode cX6_parcel 72 = .ok (.aload_n 0, 1) := dk_42 (dk_at dksX6_parcel_3 0 rfl rfl)
theorem dX6_parcel_73 : decode cX6_parcel 73 = .ok (.iload_n 1, 1) := dk_27 (dk_at dksX6_parcel_3 1 rfl rfl)
theorem dX6_parcel_74 : decode cX6_parcel 74 = .ok (.invokevirtual 66, 3) := dk_182 0 66 (dk_at dksX6_parcel_3 2 rfl rfl)
theorem dX6_parcel_77 : decode cX6_parcel 77 = .ok (.ifCond .eq 12, 3) := dk_153 0 12 (dk_at dksX6_parcel_3 5 rfl rfl)
theorem dX6_parcel_80 : decode cX6_parcel 80 = .ok (.aload_n 0, 1) := dk_42 (dk_at dksX6_parcel_3 8 rfl rfl)
theorem dX6_parcel_81 : decode cX6_parcel 81 = .ok (.iload_n 1, 1) := dk_27 (dk_at dksX6_parcel_3 9 rfl rfl)
theorem dX6_parcel_82 : decode cX6_parcel 82 = .ok (.iconst 4, 1) := dk_7 (dk_at dksX6_parcel_3 10 rfl rfl)
theorem dX6_parcel_83 : decode cX6_parcel 83 = .ok (.invokevirtual 62, 3) := dk_182 0 62 (dk_at dksX6_parcel_3 11 rfl rfl)
theorem dX6_parcel_86 : decode cX6_parcel 86 = .ok (.goto 4, 3) := dk_167 0 4 (dk_at dksX6_parcel_3 14 rfl rfl)
theorem dX6_parcel_89 : decode cX6_parcel 89 = .ok (.iconst (-1), 1) := dk_2 (dk_at dksX6_parcel_3 17 rfl rfl)
theorem dX6_parcel_90 : decode cX6_parcel 90 = .ok (.ireturn, 1) := dk_172 (dk_at dksX6_parcel_3 18 rfl rfl)
theorem dX6_parcel_91 : decode cX6_parcel 91 = .ok (.aload_n 0, 1) := dk_42 (dk_at dksX6_parcel_3 19 rfl rfl)
theorem dX6_parcel_92 : decode cX6_parcel 92 = .ok (.iload_n 1, 1) := dk_27 (dk_at dksX6_parcel_3 20 rfl rfl)
theorem dX6_parcel_93 : decode cX6_parcel 93 = .ok (.invokevirtual 104, 3) := dk_182 0 104 (dk_at dksX6_parcel_3 21 rfl rfl)
theorem dX6_parcel_96 : decode cX6_parcel 96 = .ok (.ifCond .eq 13, 3) := dk_153 0 13 (dk_at dksX6_parcel_4 0 rfl rfl)
theorem dX6_parcel_99 : decode cX6_parcel 99 = .ok (.aload_n 0, 1) := dk_42 (dk_at dksX6_parcel_4 3 rfl rfl)
theorem dX6_parcel_100 : decode cX6_parcel 100 = .ok (.iload_n 1, 1) := dk_27 (dk_at dksX6_parcel_4 4 rfl rfl)
theorem dX6_parcel_101 : decode cX6_parcel 101 = .ok (.bipush 6, 2) := dk_16 6 (dk_at dksX6_parcel_4 5 rfl rfl)
theorem dX6_parcel_103 : decode cX6_parcel 103 = .ok (.invokevirtual 62, 3) := dk_182 0 62 (dk_at dksX6_parcel_4 7 rfl rfl)
theorem dX6_parcel_106 : decode cX6_parcel 106 = .ok (.goto 4, 3) := dk_167 0 4 (dk_at dksX6_parcel_4 10 rfl rfl)
theorem dX6_parcel_109 : decode cX6_parcel 109 = .ok (.iconst (-1), 1) := dk_2 (dk_at dksX6_parcel_4 13 rfl rfl)
theorem dX6_parcel_110 : decode cX6_parcel 110 = .ok (.ireturn, 1) := dk_172 (dk_at dksX6_parcel_4 14 rfl rfl)
theorem dX6_parcel_111 : decode cX6_parcel 111 = .ok (.aload_n 0, 1) := dk_42 (dk_at dksX6_parcel_4 15 rfl rfl)
theorem dX6_parcel_112 : decode cX6_parcel 112 = .ok (.iload_n 1, 1) := dk_27 (dk_at dksX6_parcel_4 16 rfl rfl)
theorem dX6_parcel_113 : decode cX6_parcel 113 = .ok (.invokevirtual 104, 3) := dk_182 0 104 (dk_at dksX6_parcel_4 17 rfl rfl)
theorem dX6_parcel_116 : decode cX6_parcel 116 = .ok (.ifCond .eq 11, 3) := dk_153 0 11 (dk_at dksX6_parcel_4 20 rfl rfl)
theorem dX6_parcel_119 : decode cX6_parcel 119 = .ok (.aload_n 0, 1) := dk_42 (dk_at dksX6_parcel_4 23 rfl rfl)
theorem dX6_parcel_120 : decode cX6_parcel 120 = .ok (.iload_n 1, 1) := dk_27 (dk_at dksX6_parcel_5 0 rfl rfl)
theorem dX6_parcel_121 : decode cX6_parcel 121 = .ok (.invokevirtual 94, 3) := dk_182 0 94 (dk_at dksX6_parcel_5 1 rfl rfl)
theorem dX6_parcel_124 : decode cX6_parcel 124 = .ok (.goto 4, 3) := dk_167 0 4 (dk_at dksX6_parcel_5 4 rfl rfl)
theorem dX6_parcel_127 : decode cX6_parcel 127 = .ok (.iconst (-1), 1) := dk_2 (dk_at dksX6_parcel_5 7 rfl rfl)
theorem dX6_parcel_128 : decode cX6_parcel 128 = .ok (.ireturn, 1) := dk_172 (dk_at dksX6_parcel_5 8 rfl rfl)
theorem dX6_parcel_129 : decode cX6_parcel 129 = .ok (.aload_n 0, 1) := dk_42 (dk_at dksX6_parcel_5 9 rfl rfl)
theorem dX6_parcel_130 : decode cX6_parcel 130 = .ok (.iload_n 1, 1) := dk_27 (dk_at dksX6_parcel_5 10 rfl rfl)
theorem dX6_parcel_131 : decode cX6_parcel 131 = .ok (.bipush 7, 2) := dk_16 7 (dk_at dksX6_parcel_5 11 rfl rfl)
theorem dX6_parcel_133 : decode cX6_parcel 133 = .ok (.invokevirtual 62, 3) := dk_182 0 62 (dk_at dksX6_parcel_5 13 rfl rfl)
theorem dX6_parcel_136 : decode cX6_parcel 136 = .ok (.ireturn, 1) := dk_172 (dk_at dksX6_parcel_5 16 rfl rfl)
theorem dX6_parcel_137 : decode cX6_parcel 137 = .ok (.aload_n 0, 1) := dk_42 (dk_at dksX6_parcel_5 17 rfl rfl)
theorem dX6_parcel_138 : decode cX6_parcel 138 = .ok (.iload_n 1, 1) := dk_27 (dk_at dksX6_parcel_5 18 rfl rfl)
theorem dX6_parcel_139 : decode cX6_parcel 139 = .ok (.bipush 8, 2) := dk_16 8 (dk_at dksX6_parcel_5 19 rfl rfl)
theorem dX6_parcel_141 : decode cX6_parcel 141 = .ok (.invokevirtual 62, 3) := dk_182 0 62 (dk_at dksX6_parcel_5 21 rfl rfl)
theorem dX6_parcel_144 : decode cX6_parcel 144 = .ok (.ireturn, 1) := dk_172 (dk_at dksX6_parcel_6 0 rfl rfl)
theorem dX6_parcel_145 : decode cX6_parcel 145 = .ok (.aload_n 0, 1) := dk_42 (dk_at dksX6_parcel_6 1 rfl rfl)
theorem dX6_parcel_146 : decode cX6_parcel 146 = .ok (.iload_n 1, 1) := dk_27 (dk_at dksX6_parcel_6 2 rfl rfl)
theorem dX6_parcel_147 : decode cX6_parcel 147 = .ok (.iload_n 2, 1) := dk_28 (dk_at dksX6_parcel_6 3 rfl rfl)
theorem dX6_parcel_148 : decode cX6_parcel 148 = .ok (.invokevirtual 62, 3) := dk_182 0 62 (dk_at dksX6_parcel_6 4 rfl rfl)
theorem dX6_parcel_151 : decode cX6_parcel 151 = .ok (.ireturn, 1) := dk_172 (dk_at dksX6_parcel_6 7 rfl rfl)
abbrev cX6_noParcel : ByteArray := prog_19_method_75_code
def yX6_noParcel : MethodName := ⟨RX6, "noParcel", "(I)Z"⟩
def dkwX6_noParcel_1 : List UInt8 := [182, 1, 58, 172]
abbrev dktX6_noParcel_1 : List UInt8 := dkwX6_noParcel_1 ++ []
def dkwX6_noParcel_0 : List UInt8 := [42, 27, 3, 42, 180, 0, 7, 7, 46, 4, 100, 184, 0, 152, 154, 0, 7, 4, 167, 0, 4, 3, 4]
abbrev dktX6_noParcel_0 : List UInt8 := dkwX6_noParcel_0 ++ dktX6_noParcel_1
theorem dksX6_noParcel_0 : cX6_noParcel.data.toList.drop 0 = dktX6_noParcel_0 := by decide +kernel
theorem dksX6_noParcel_1 : cX6_noParcel.data.toList.drop 23 = dktX6_noParcel_1 := dk_seg dksX6_noParcel_0 23 rfl rfl
theorem dX6_noParcel_0 : decode cX6_noParcel 0 = .ok (.aload_n 0, 1) := dk_42 (dk_at dksX6_noParcel_0 0 rfl rfl)
theorem dX6_noParcel_1 : decode cX6_noParcel 1 = .ok (.iload_n 1, 1) := dk_27 (dk_at dksX6_noParcel_0 1 rfl rfl)
theorem dX6_noParcel_2 : decode cX6_noParcel 2 = .ok (.iconst 0, 1) := dk_3 (dk_at dksX6_noParcel_0 2 rfl rfl)
theorem dX6_noParcel_3 : decode cX6_noParcel 3 = .ok (.aload_n 0, 1) := dk_42 (dk_at dksX6_noParcel_0 3 rfl rfl)
theorem dX6_noParcel_4 : decode cX6_noParcel 4 = .ok (.getfield 7, 3) := dk_180 0 7 (dk_at dksX6_noParcel_0 4 rfl rfl)
theorem dX6_noParcel_7 : decode cX6_noParcel 7 = .ok (.iconst 4, 1) := dk_7 (dk_at dksX6_noParcel_0 7 rfl rfl)
theorem dX6_noParcel_8 : decode cX6_noParcel 8 = .ok (.iaload, 1) := dk_46 (dk_at dksX6_noParcel_0 8 rfl rfl)
theorem dX6_noParcel_9 : decode cX6_noParcel 9 = .ok (.iconst 1, 1) := dk_4 (dk_at dksX6_noParcel_0 9 rfl rfl)
theorem dX6_noParcel_10 : decode cX6_noParcel 10 = .ok (.isub, 1) := dk_100 (dk_at dksX6_noParcel_0 10 rfl rfl)
theorem dX6_noParcel_11 : decode cX6_noParcel 11 = .ok (.invokestatic 152, 3) := dk_184 0 152 (dk_at dksX6_noParcel_0 11 rfl rfl)
theorem dX6_noParcel_14 : decode cX6_noParcel 14 = .ok (.ifCond .ne 7, 3) := dk_154 0 7 (dk_at dksX6_noParcel_0 14 rfl rfl)
theorem dX6_noParcel_17 : decode cX6_noParcel 17 = .ok (.iconst 1, 1) := dk_4 (dk_at dksX6_noParcel_0 17 rfl rfl)
theorem dX6_noParcel_18 : decode cX6_noParcel 18 = .ok (.goto 4, 3) := dk_167 0 4 (dk_at dksX6_noParcel_0 18 rfl rfl)
theorem dX6_noParcel_21 : decode cX6_noParcel 21 = .ok (.iconst 0, 1) := dk_3 (dk_at dksX6_noParcel_0 21 rfl rfl)
theorem dX6_noParcel_22 : decode cX6_noParcel 22 = .ok (.iconst 1, 1) := dk_4 (dk_at dksX6_noParcel_0 22 rfl rfl)
theorem dX6_noParcel_23 : decode cX6_noParcel 23 = .ok (.invokevirtual 314, 3) := dk_182 1 58 (dk_at dksX6_noParcel_1 0 rfl rfl)
theorem dX6_noParcel_26 : decode cX6_noParcel 26 = .ok (.ireturn, 1) := dk_172 (dk_at dksX6_noParcel_1 3 rfl rfl)
abbrev cX6_chute : ByteArray := prog_19_method_83_code
def yX6_chute : MethodName := ⟨RX6, "chute", "(II)I"⟩
def dkwX6_chute_4 : List UInt8 := [182, 0, 78, 172]
abbrev dktX6_chute_4 : List UInt8 := dkwX6_chute_4 ++ []
def dkwX6_chute_3 : List UInt8 := [42, 27, 182, 1, 80, 172, 42, 27, 16, 7, 182, 0, 78, 172, 42, 27, 182, 1, 83, 172, 42, 27, 28]
abbrev dktX6_chute_3 : List UInt8 := dkwX6_chute_3 ++ dktX6_chute_4
def dkwX6_chute_2 : List UInt8 := [170, 0, 0, 0, 45, 0, 0, 0, 7, 0, 0, 0, 9, 0, 0, 0, 25, 0, 0, 0, 31, 0, 0, 0, 39]
abbrev dktX6_chute_2 : List UInt8 := dkwX6_chute_2 ++ dktX6_chute_3
def dkwX6_chute_1 : List UInt8 := [4, 167, 0, 4, 3, 5, 182, 1, 58, 153, 0, 5, 3, 172, 28]
abbrev dktX6_chute_1 : List UInt8 := dkwX6_chute_1 ++ dktX6_chute_2
def dkwX6_chute_0 : List UInt8 := [42, 3, 181, 0, 55, 42, 27, 182, 1, 77, 154, 0, 26, 42, 28, 3, 16, 9, 184, 0, 152, 154, 0, 7]
abbrev dktX6_chute_0 : List UInt8 := dkwX6_chute_0 ++ dktX6_chute_1
theorem dksX6_chute_0 : cX6_chute.data.toList.drop 0 = dktX6_chute_0 := by decide +kernel
theorem dksX6_chute_1 : cX6_chute.data.toList.drop 24 = dktX6_chute_1 := dk_seg dksX6_chute_0 24 rfl rfl
theorem dksX6_chute_2 : cX6_chute.data.toList.drop 39 = dktX6_chute_2 := dk_seg dksX6_chute_1 15 rfl rfl
theorem dksX6_chute_3 : cX6_chute.data.toList.drop 64 = dktX6_chute_3 := dk_seg dksX6_chute_2 25 rfl rfl
theorem dksX6_chute_4 : cX6_chute.data.toList.drop 87 = dktX6_chute_4 := dk_seg dksX6_chute_3 23 rfl rfl
theorem dX6_chute_0 : decode cX6_chute 0 = .ok (.aload_n 0, 1) := dk_42 (dk_at dksX6_chute_0 0 rfl rfl)
theorem dX6_chute_1 : decode cX6_chute 1 = .ok (.iconst 0, 1) := dk_3 (dk_at dksX6_chute_0 1 rfl rfl)
theorem dX6_chute_2 : decode cX6_chute 2 = .ok (.putfield 55, 3) := dk_181 0 55 (dk_at dksX6_chute_0 2 rfl rfl)
theorem dX6_chute_5 : decode cX6_chute 5 = .ok (.aload_n 0, 1) := dk_42 (dk_at dksX6_chute_0 5 rfl rfl)
theorem dX6_chute_6 : decode cX6_chute 6 = .ok (.iload_n 1, 1) := dk_27 (dk_at dksX6_chute_0 6 rfl rfl)
theorem dX6_chute_7 : decode cX6_chute 7 = .ok (.invokevirtual 333, 3) := dk_182 1 77 (dk_at dksX6_chute_0 7 rfl rfl)
theorem dX6_chute_10 : decode cX6_chute 10 = .ok (.ifCond .ne 26, 3) := dk_154 0 26 (dk_at dksX6_chute_0 10 rfl rfl)
theorem dX6_chute_13 : decode cX6_chute 13 = .ok (.aload_n 0, 1) := dk_42 (dk_at dksX6_chute_0 13 rfl rfl)
theorem dX6_chute_14 : decode cX6_chute 14 = .ok (.iload_n 2, 1) := dk_28 (dk_at dksX6_chute_0 14 rfl rfl)
theorem dX6_chute_15 : decode cX6_chute 15 = .ok (.iconst 0, 1) := dk_3 (dk_at dksX6_chute_0 15 rfl rfl)
theorem dX6_chute_16 : decode cX6_chute 16 = .ok (.bipush 9, 2) := dk_16 9 (dk_at dksX6_chute_0 16 rfl rfl)
theorem dX6_chute_18 : decode cX6_chute 18 = .ok (.invokestatic 152, 3) := dk_184 0 152 (dk_at dksX6_chute_0 18 rfl rfl)
theorem dX6_chute_21 : decode cX6_chute 21 = .ok (.ifCond .ne 7, 3) := dk_154 0 7 (dk_at dksX6_chute_0 21 rfl rfl)
theorem dX6_chute_24 : decode cX6_chute 24 = .ok (.iconst 1, 1) := dk_4 (dk_at dksX6_chute_1 0 rfl rfl)
theorem dX6_chute_25 : decode cX6_chute 25 = .ok (.goto 4, 3) := dk_167 0 4 (dk_at dksX6_chute_1 1 rfl rfl)
theorem dX6_chute_28 : decode cX6_chute 28 = .ok (.iconst 0, 1) := dk_3 (dk_at dksX6_chute_1 4 rfl rfl)
theorem dX6_chute_29 : decode cX6_chute 29 = .ok (.iconst 2, 1) := dk_5 (dk_at dksX6_chute_1 5 rfl rfl)
theorem dX6_chute_30 : decode cX6_chute 30 = .ok (.invokevirtual 314, 3) := dk_182 1 58 (dk_at dksX6_chute_1 6 rfl rfl)
theorem dX6_chute_33 : decode cX6_chute 33 = .ok (.ifCond .eq 5, 3) := dk_153 0 5 (dk_at dksX6_chute_1 9 rfl rfl)
theorem dX6_chute_36 : decode cX6_chute 36 = .ok (.iconst 0, 1) := dk_3 (dk_at dksX6_chute_1 12 rfl rfl)
theorem dX6_chute_37 : decode cX6_chute 37 = .ok (.ireturn, 1) := dk_172 (dk_at dksX6_chute_1 13 rfl rfl)
theorem dX6_chute_38 : decode cX6_chute 38 = .ok (.iload_n 2, 1) := dk_28 (dk_at dksX6_chute_1 14 rfl rfl)
theorem dX6_chute_39 : decode cX6_chute 39 = .ok (.tableswitch 45 7 9 #[25, 31, 39], 25) := by decide +kernel
theorem dX6_chute_64 : decode cX6_chute 64 = .ok (.aload_n 0, 1) := dk_42 (dk_at dksX6_chute_3 0 rfl rfl)
theorem dX6_chute_65 : decode cX6_chute 65 = .ok (.iload_n 1, 1) := dk_27 (dk_at dksX6_chute_3 1 rfl rfl)
theorem dX6_chute_66 : decode cX6_chute 66 = .ok (.invokevirtual 336, 3) := dk_182 1 80 (dk_at dksX6_chute_3 2 rfl rfl)
theorem dX6_chute_69 : decode cX6_chute 69 = .ok (.ireturn, 1) := dk_172 (dk_at dksX6_chute_3 5 rfl rfl)
theorem dX6_chute_70 : decode cX6_chute 70 = .ok (.aload_n 0, 1) := dk_42 (dk_at dksX6_chute_3 6 rfl rfl)
theorem dX6_chute_71 : decode cX6_chute 71 = .ok (.iload_n 1, 1) := dk_27 (dk_at dksX6_chute_3 7 rfl rfl)
theorem dX6_chute_72 : decode cX6_chute 72 = .ok (.bipush 7, 2) := dk_16 7 (dk_at dksX6_chute_3 8 rfl rfl)
theorem dX6_chute_74 : decode cX6_chute 74 = .ok (.invokevirtual 78, 3) := dk_182 0 78 (dk_at dksX6_chute_3 10 rfl rfl)
theorem dX6_chute_77 : decode cX6_chute 77 = .ok (.ireturn, 1) := dk_172 (dk_at dksX6_chute_3 13 rfl rfl)
theorem dX6_chute_78 : decode cX6_chute 78 = .ok (.aload_n 0, 1) := dk_42 (dk_at dksX6_chute_3 14 rfl rfl)
theorem dX6_chute_79 : decode cX6_chute 79 = .ok (.iload_n 1, 1) := dk_27 (dk_at dksX6_chute_3 15 rfl rfl)
theorem dX6_chute_80 : decode cX6_chute 80 = .ok (.invokevirtual 339, 3) := dk_182 1 83 (dk_at dksX6_chute_3 16 rfl rfl)
theorem dX6_chute_83 : decode cX6_chute 83 = .ok (.ireturn, 1) := dk_172 (dk_at dksX6_chute_3 19 rfl rfl)
theorem dX6_chute_84 : decode cX6_chute 84 = .ok (.aload_n 0, 1) := dk_42 (dk_at dksX6_chute_3 20 rfl rfl)
theorem dX6_chute_85 : decode cX6_chute 85 = .ok (.iload_n 1, 1) := dk_27 (dk_at dksX6_chute_3 21 rfl rfl)
theorem dX6_chute_86 : decode cX6_chute 86 = .ok (.iload_n 2, 1) := dk_28 (dk_at dksX6_chute_3 22 rfl rfl)
theorem dX6_chute_87 : decode cX6_chute 87 = .ok (.invokevirtual 78, 3) := dk_182 0 78 (dk_at dksX6_chute_4 0 rfl rfl)
theorem dX6_chute_90 : decode cX6_chute 90 = .ok (.ireturn, 1) := dk_172 (dk_at dksX6_chute_4 3 rfl rfl)
abbrev cX6_noChute : ByteArray := prog_19_method_76_code
def yX6_noChute : MethodName := ⟨RX6, "noChute", "(I)Z"⟩
def dkwX6_noChute_1 : List UInt8 := [182, 1, 58, 172]
abbrev dktX6_noChute_1 : List UInt8 := dkwX6_noChute_1 ++ []
def dkwX6_noChute_0 : List UInt8 := [42, 27, 3, 42, 180, 0, 7, 6, 46, 4, 100, 184, 0, 152, 154, 0, 7, 4, 167, 0, 4, 3, 4]
abbrev dktX6_noChute_0 : List UInt8 := dkwX6_noChute_0 ++ dktX6_noChute_1
theorem dksX6_noChute_0 : cX6_noChute.data.toList.drop 0 = dktX6_noChute_0 := by decide +kernel
theorem dksX6_noChute_1 : cX6_noChute.data.toList.drop 23 = dktX6_noChute_1 := dk_seg dksX6_noChute_0 23 rfl rfl
theorem dX6_noChute_0 : decode cX6_noChute 0 = .ok (.aload_n 0, 1) := dk_42 (dk_at dksX6_noChute_0 0 rfl rfl)
theorem dX6_noChute_1 : decode cX6_noChute 1 = .ok (.iload_n 1, 1) := dk_27 (dk_at dksX6_noChute_0 1 rfl rfl)
theorem dX6_noChute_2 : decode cX6_noChute 2 = .ok (.iconst 0, 1) := dk_3 (dk_at dksX6_noChute_0 2 rfl rfl)
theorem dX6_noChute_3 : decode cX6_noChute 3 = .ok (.aload_n 0, 1) := dk_42 (dk_at dksX6_noChute_0 3 rfl rfl)
theorem dX6_noChute_4 : decode cX6_noChute 4 = .ok (.getfield 7, 3) := dk_180 0 7 (dk_at dksX6_noChute_0 4 rfl rfl)
theorem dX6_noChute_7 : decode cX6_noChute 7 = .ok (.iconst 3, 1) := dk_6 (dk_at dksX6_noChute_0 7 rfl rfl)
theorem dX6_noChute_8 : decode cX6_noChute 8 = .ok (.iaload, 1) := dk_46 (dk_at dksX6_noChute_0 8 rfl rfl)
theorem dX6_noChute_9 : decode cX6_noChute 9 = .ok (.iconst 1, 1) := dk_4 (dk_at dksX6_noChute_0 9 rfl rfl)
theorem dX6_noChute_10 : decode cX6_noChute 10 = .ok (.isub, 1) := dk_100 (dk_at dksX6_noChute_0 10 rfl rfl)
theorem dX6_noChute_11 : decode cX6_noChute 11 = .ok (.invokestatic 152, 3) := dk_184 0 152 (dk_at dksX6_noChute_0 11 rfl rfl)
theorem dX6_noChute_14 : decode cX6_noChute 14 = .ok (.ifCond .ne 7, 3) := dk_154 0 7 (dk_at dksX6_noChute_0 14 rfl rfl)
theorem dX6_noChute_17 : decode cX6_noChute 17 = .ok (.iconst 1, 1) := dk_4 (dk_at dksX6_noChute_0 17 rfl rfl)
theorem dX6_noChute_18 : decode cX6_noChute 18 = .ok (.goto 4, 3) := dk_167 0 4 (dk_at dksX6_noChute_0 18 rfl rfl)
theorem dX6_noChute_21 : decode cX6_noChute 21 = .ok (.iconst 0, 1) := dk_3 (dk_at dksX6_noChute_0 21 rfl rfl)
theorem dX6_noChute_22 : decode cX6_noChute 22 = .ok (.iconst 1, 1) := dk_4 (dk_at dksX6_noChute_0 22 rfl rfl)
theorem dX6_noChute_23 : decode cX6_noChute 23 = .ok (.invokevirtual 314, 3) := dk_182 1 58 (dk_at dksX6_noChute_1 0 rfl rfl)
theorem dX6_noChute_26 : decode cX6_noChute 26 = .ok (.ireturn, 1) := dk_172 (dk_at dksX6_noChute_1 3 rfl rfl)
abbrev cX6_rightIn : ByteArray := prog_19_method_81_code
def yX6_rightIn : MethodName := ⟨RX6, "rightIn", "(I)I"⟩
def dkwX6_rightIn_2 : List UInt8 := [167, 255, 213, 28, 172]
abbrev dktX6_rightIn_2 : List UInt8 := dkwX6_rightIn_2 ++ []
def dkwX6_rightIn_1 : List UInt8 := [182, 0, 78, 3, 182, 0, 62, 27, 160, 0, 7, 4, 167, 0, 4, 3, 184, 0, 81, 96, 61, 132, 3, 1]
abbrev dktX6_rightIn_1 : List UInt8 := dkwX6_rightIn_1 ++ dktX6_rightIn_2
def dkwX6_rightIn_0 : List UInt8 := [3, 61, 3, 62, 29, 42, 27, 16, 6, 182, 0, 78, 162, 0, 38, 28, 42, 42, 27, 16, 8, 29, 96]
abbrev dktX6_rightIn_0 : List UInt8 := dkwX6_rightIn_0 ++ dktX6_rightIn_1
theorem dksX6_rightIn_0 : cX6_rightIn.data.toList.drop 0 = dktX6_rightIn_0 := by decide +kernel
theorem dksX6_rightIn_1 : cX6_rightIn.data.toList.drop 23 = dktX6_rightIn_1 := dk_seg dksX6_rightIn_0 23 rfl rfl
theorem dksX6_rightIn_2 : cX6_rightIn.data.toList.drop 47 = dktX6_rightIn_2 := dk_seg dksX6_rightIn_1 24 rfl rfl
theorem dX6_rightIn_0 : decode cX6_rightIn 0 = .ok (.iconst 0, 1) := dk_3 (dk_at dksX6_rightIn_0 0 rfl rfl)
theorem dX6_rightIn_1 : decode cX6_rightIn 1 = .ok (.istore_n 2, 1) := dk_61 (dk_at dksX6_rightIn_0 1 rfl rfl)
theorem dX6_rightIn_2 : decode cX6_rightIn 2 = .ok (.iconst 0, 1) := dk_3 (dk_at dksX6_rightIn_0 2 rfl rfl)
theorem dX6_rightIn_3 : decode cX6_rightIn 3 = .ok (.istore_n 3, 1) := dk_62 (dk_at dksX6_rightIn_0 3 rfl rfl)
theorem dX6_rightIn_4 : decode cX6_rightIn 4 = .ok (.iload_n 3, 1) := dk_29 (dk_at dksX6_rightIn_0 4 rfl rfl)
theorem dX6_rightIn_5 : decode cX6_rightIn 5 = .ok (.aload_n 0, 1) := dk_42 (dk_at dksX6_rightIn_0 5 rfl rfl)
theorem dX6_rightIn_6 : decode cX6_rightIn 6 = .ok (.iload_n 1, 1) := dk_27 (dk_at dksX6_rightIn_0 6 rfl rfl)
theorem dX6_rightIn_7 : decode cX6_rightIn 7 = .ok (.bipush 6, 2) := dk_16 6 (dk_at dksX6_rightIn_0 7 rfl rfl)
theorem dX6_rightIn_9 : decode cX6_rightIn 9 = .ok (.invokevirtual 78, 3) := dk_182 0 78 (dk_at dksX6_rightIn_0 9 rfl rfl)
theorem dX6_rightIn_12 : decode cX6_rightIn 12 = .ok (.if_icmp .ge 38, 3) := dk_162 0 38 (dk_at dksX6_rightIn_0 12 rfl rfl)
theorem dX6_rightIn_15 : decode cX6_rightIn 15 = .ok (.iload_n 2, 1) := dk_28 (dk_at dksX6_rightIn_0 15 rfl rfl)
theorem dX6_rightIn_16 : decode cX6_rightIn 16 = .ok (.aload_n 0, 1) := dk_42 (dk_at dksX6_rightIn_0 16 rfl rfl)
theorem dX6_rightIn_17 : decode cX6_rightIn 17 = .ok (.aload_n 0, 1) := dk_42 (dk_at dksX6_rightIn_0 17 rfl rfl)
theorem dX6_rightIn_18 : decode cX6_rightIn 18 = .ok (.iload_n 1, 1) := dk_27 (dk_at dksX6_rightIn_0 18 rfl rfl)
theorem dX6_rightIn_19 : decode cX6_rightIn 19 = .ok (.bipush 8, 2) := dk_16 8 (dk_at dksX6_rightIn_0 19 rfl rfl)
theorem dX6_rightIn_21 : decode cX6_rightIn 21 = .ok (.iload_n 3, 1) := dk_29 (dk_at dksX6_rightIn_0 21 rfl rfl)
theorem dX6_rightIn_22 : decode cX6_rightIn 22 = .ok (.iadd, 1) := dk_96 (dk_at dksX6_rightIn_0 22 rfl rfl)
theorem dX6_rightIn_23 : decode cX6_rightIn 23 = .ok (.invokevirtual 78, 3) := dk_182 0 78 (dk_at dksX6_rightIn_1 0 rfl rfl)
theorem dX6_rightIn_26 : decode cX6_rightIn 26 = .ok (.iconst 0, 1) := dk_3 (dk_at dksX6_rightIn_1 3 rfl rfl)
theorem dX6_rightIn_27 : decode cX6_rightIn 27 = .ok (.invokevirtual 62, 3) := dk_182 0 62 (dk_at dksX6_rightIn_1 4 rfl rfl)
theorem dX6_rightIn_30 : decode cX6_rightIn 30 = .ok (.iload_n 1, 1) := dk_27 (dk_at dksX6_rightIn_1 7 rfl rfl)
theorem dX6_rightIn_31 : decode cX6_rightIn 31 = .ok (.if_icmp .ne 7, 3) := dk_160 0 7 (dk_at dksX6_rightIn_1 8 rfl rfl)
theorem dX6_rightIn_34 : decode cX6_rightIn 34 = .ok (.iconst 1, 1) := dk_4 (dk_at dksX6_rightIn_1 11 rfl rfl)
theorem dX6_rightIn_35 : decode cX6_rightIn 35 = .ok (.goto 4, 3) := dk_167 0 4 (dk_at dksX6_rightIn_1 12 rfl rfl)
theorem dX6_rightIn_38 : decode cX6_rightIn 38 = .ok (.iconst 0, 1) := dk_3 (dk_at dksX6_rightIn_1 15 rfl rfl)
theorem dX6_rightIn_39 : decode cX6_rightIn 39 = .ok (.invokestatic 81, 3) := dk_184 0 81 (dk_at dksX6_rightIn_1 16 rfl rfl)
theorem dX6_rightIn_42 : decode cX6_rightIn 42 = .ok (.iadd, 1) := dk_96 (dk_at dksX6_rightIn_1 19 rfl rfl)
theorem dX6_rightIn_43 : decode cX6_rightIn 43 = .ok (.istore_n 2, 1) := dk_61 (dk_at dksX6_rightIn_1 20 rfl rfl)
theorem dX6_rightIn_44 : decode cX6_rightIn 44 = .ok (.iinc 3 1, 3) := dk_132 3 1 (dk_at dksX6_rightIn_1 21 rfl rfl)
theorem dX6_rightIn_47 : decode cX6_rightIn 47 = .ok (.goto (-43), 3) := dk_167 255 213 (dk_at dksX6_rightIn_2 0 rfl rfl)
theorem dX6_rightIn_50 : decode cX6_rightIn 50 = .ok (.iload_n 2, 1) := dk_28 (dk_at dksX6_rightIn_2 3 rfl rfl)
theorem dX6_rightIn_51 : decode cX6_rightIn 51 = .ok (.ireturn, 1) := dk_172 (dk_at dksX6_rightIn_2 4 rfl rfl)
abbrev cX6_onFor : ByteArray := prog_19_method_82_code
def yX6_onFor : MethodName := ⟨RX6, "onFor", "(I)I"⟩
def dkwX6_onFor_2 : List UInt8 := [167, 255, 214, 28, 172]
abbrev dktX6_onFor_2 : List UInt8 := dkwX6_onFor_2 ++ []
def dkwX6_onFor_1 : List UInt8 := [29, 3, 182, 0, 62, 27, 160, 0, 7, 4, 167, 0, 4, 3, 184, 0, 81, 96, 61, 132, 3, 1]
abbrev dktX6_onFor_1 : List UInt8 := dkwX6_onFor_1 ++ dktX6_onFor_2
def dkwX6_onFor_0 : List UInt8 := [3, 61, 3, 62, 29, 42, 180, 0, 7, 7, 46, 162, 0, 38, 28, 42, 29, 182, 0, 66, 153, 0, 17, 42]
abbrev dktX6_onFor_0 : List UInt8 := dkwX6_onFor_0 ++ dktX6_onFor_1
theorem dksX6_onFor_0 : cX6_onFor.data.toList.drop 0 = dktX6_onFor_0 := by decide +kernel
theorem dksX6_onFor_1 : cX6_onFor.data.toList.drop 24 = dktX6_onFor_1 := dk_seg dksX6_onFor_0 24 rfl rfl
theorem dksX6_onFor_2 : cX6_onFor.data.toList.drop 46 = dktX6_onFor_2 := dk_seg dksX6_onFor_1 22 rfl rfl
theorem dX6_onFor_0 : decode cX6_onFor 0 = .ok (.iconst 0, 1) := dk_3 (dk_at dksX6_onFor_0 0 rfl rfl)
theorem dX6_onFor_1 : decode cX6_onFor 1 = .ok (.istore_n 2, 1) := dk_61 (dk_at dksX6_onFor_0 1 rfl rfl)
theorem dX6_onFor_2 : decode cX6_onFor 2 = .ok (.iconst 0, 1) := dk_3 (dk_at dksX6_onFor_0 2 rfl rfl)
theorem dX6_onFor_3 : decode cX6_onFor 3 = .ok (.istore_n 3, 1) := dk_62 (dk_at dksX6_onFor_0 3 rfl rfl)
theorem dX6_onFor_4 : decode cX6_onFor 4 = .ok (.iload_n 3, 1) := dk_29 (dk_at dksX6_onFor_0 4 rfl rfl)
theorem dX6_onFor_5 : decode cX6_onFor 5 = .ok (.aload_n 0, 1) := dk_42 (dk_at dksX6_onFor_0 5 rfl rfl)
theorem dX6_onFor_6 : decode cX6_onFor 6 = .ok (.getfield 7, 3) := dk_180 0 7 (dk_at dksX6_onFor_0 6 rfl rfl)
theorem dX6_onFor_9 : decode cX6_onFor 9 = .ok (.iconst 4, 1) := dk_7 (dk_at dksX6_onFor_0 9 rfl rfl)
theorem dX6_onFor_10 : decode cX6_onFor 10 = .ok (.iaload, 1) := dk_46 (dk_at dksX6_onFor_0 10 rfl rfl)
theorem dX6_onFor_11 : decode cX6_onFor 11 = .ok (.if_icmp .ge 38, 3) := dk_162 0 38 (dk_at dksX6_onFor_0 11 rfl rfl)
theorem dX6_onFor_14 : decode cX6_onFor 14 = .ok (.iload_n 2, 1) := dk_28 (dk_at dksX6_onFor_0 14 rfl rfl)
theorem dX6_onFor_15 : decode cX6_onFor 15 = .ok (.aload_n 0, 1) := dk_42 (dk_at dksX6_onFor_0 15 rfl rfl)
theorem dX6_onFor_16 : decode cX6_onFor 16 = .ok (.iload_n 3, 1) := dk_29 (dk_at dksX6_onFor_0 16 rfl rfl)
theorem dX6_onFor_17 : decode cX6_onFor 17 = .ok (.invokevirtual 66, 3) := dk_182 0 66 (dk_at dksX6_onFor_0 17 rfl rfl)
theorem dX6_onFor_20 : decode cX6_onFor 20 = .ok (.ifCond .eq 17, 3) := dk_153 0 17 (dk_at dksX6_onFor_0 20 rfl rfl)
theorem dX6_onFor_23 : decode cX6_onFor 23 = .ok (.aload_n 0, 1) := dk_42 (dk_at dksX6_onFor_0 23 rfl rfl)
theorem dX6_onFor_24 : decode cX6_onFor 24 = .ok (.iload_n 3, 1) := dk_29 (dk_at dksX6_onFor_1 0 rfl rfl)
theorem dX6_onFor_25 : decode cX6_onFor 25 = .ok (.iconst 0, 1) := dk_3 (dk_at dksX6_onFor_1 1 rfl rfl)
theorem dX6_onFor_26 : decode cX6_onFor 26 = .ok (.invokevirtual 62, 3) := dk_182 0 62 (dk_at dksX6_onFor_1 2 rfl rfl)
theorem dX6_onFor_29 : decode cX6_onFor 29 = .ok (.iload_n 1, 1) := dk_27 (dk_at dksX6_onFor_1 5 rfl rfl)
theorem dX6_onFor_30 : decode cX6_onFor 30 = .ok (.if_icmp .ne 7, 3) := dk_160 0 7 (dk_at dksX6_onFor_1 6 rfl rfl)
theorem dX6_onFor_33 : decode cX6_onFor 33 = .ok (.iconst 1, 1) := dk_4 (dk_at dksX6_onFor_1 9 rfl rfl)
theorem dX6_onFor_34 : decode cX6_onFor 34 = .ok (.goto 4, 3) := dk_167 0 4 (dk_at dksX6_onFor_1 10 rfl rfl)
theorem dX6_onFor_37 : decode cX6_onFor 37 = .ok (.iconst 0, 1) := dk_3 (dk_at dksX6_onFor_1 13 rfl rfl)
theorem dX6_onFor_38 : decode cX6_onFor 38 = .ok (.invokestatic 81, 3) := dk_184 0 81 (dk_at dksX6_onFor_1 14 rfl rfl)
theorem dX6_onFor_41 : decode cX6_onFor 41 = .ok (.iadd, 1) := dk_96 (dk_at dksX6_onFor_1 17 rfl rfl)
theorem dX6_onFor_42 : decode cX6_onFor 42 = .ok (.istore_n 2, 1) := dk_61 (dk_at dksX6_onFor_1 18 rfl rfl)
theorem dX6_onFor_43 : decode cX6_onFor 43 = .ok (.iinc 3 1, 3) := dk_132 3 1 (dk_at dksX6_onFor_1 19 rfl rfl)
theorem dX6_onFor_46 : decode cX6_onFor 46 = .ok (.goto (-42), 3) := dk_167 255 214 (dk_at dksX6_onFor_2 0 rfl rfl)
theorem dX6_onFor_49 : decode cX6_onFor 49 = .ok (.iload_n 2, 1) := dk_28 (dk_at dksX6_onFor_2 3 rfl rfl)
theorem dX6_onFor_50 : decode cX6_onFor 50 = .ok (.ireturn, 1) := dk_172 (dk_at dksX6_onFor_2 4 rfl rfl)
abbrev cX6_held : ByteArray := prog_19_method_84_code
def yX6_held : MethodName := ⟨RX6, "held", "(II)I"⟩
def dkwX6_held_1 : List UInt8 := [4, 100, 184, 0, 152, 153, 0, 15, 42, 27, 16, 8, 28, 96, 182, 0, 78, 167, 0, 4, 2, 172]
abbrev dktX6_held_1 : List UInt8 := dkwX6_held_1 ++ []
def dkwX6_held_0 : List UInt8 := [42, 3, 181, 0, 55, 42, 27, 182, 1, 77, 153, 0, 5, 3, 172, 28, 3, 42, 27, 16, 6, 182, 0, 78]
abbrev dktX6_held_0 : List UInt8 := dkwX6_held_0 ++ dktX6_held_1
theorem dksX6_held_0 : cX6_held.data.toList.drop 0 = dktX6_held_0 := by decide +kernel
theorem dksX6_held_1 : cX6_held.data.toList.drop 24 = dktX6_held_1 := dk_seg dksX6_held_0 24 rfl rfl
theorem dX6_held_0 : decode cX6_held 0 = .ok (.aload_n 0, 1) := dk_42 (dk_at dksX6_held_0 0 rfl rfl)
theorem dX6_held_1 : decode cX6_held 1 = .ok (.iconst 0, 1) := dk_3 (dk_at dksX6_held_0 1 rfl rfl)
theorem dX6_held_2 : decode cX6_held 2 = .ok (.putfield 55, 3) := dk_181 0 55 (dk_at dksX6_held_0 2 rfl rfl)
theorem dX6_held_5 : decode cX6_held 5 = .ok (.aload_n 0, 1) := dk_42 (dk_at dksX6_held_0 5 rfl rfl)
theorem dX6_held_6 : decode cX6_held 6 = .ok (.iload_n 1, 1) := dk_27 (dk_at dksX6_held_0 6 rfl rfl)
theorem dX6_held_7 : decode cX6_held 7 = .ok (.invokevirtual 333, 3) := dk_182 1 77 (dk_at dksX6_held_0 7 rfl rfl)
theorem dX6_held_10 : decode cX6_held 10 = .ok (.ifCond .eq 5, 3) := dk_153 0 5 (dk_at dksX6_held_0 10 rfl rfl)
theorem dX6_held_13 : decode cX6_held 13 = .ok (.iconst 0, 1) := dk_3 (dk_at dksX6_held_0 13 rfl rfl)
theorem dX6_held_14 : decode cX6_held 14 = .ok (.ireturn, 1) := dk_172 (dk_at dksX6_held_0 14 rfl rfl)
theorem dX6_held_15 : decode cX6_held 15 = .ok (.iload_n 2, 1) := dk_28 (dk_at dksX6_held_0 15 rfl rfl)
theorem dX6_held_16 : decode cX6_held 16 = .ok (.iconst 0, 1) := dk_3 (dk_at dksX6_held_0 16 rfl rfl)
theorem dX6_held_17 : decode cX6_held 17 = .ok (.aload_n 0, 1) := dk_42 (dk_at dksX6_held_0 17 rfl rfl)
theorem dX6_held_18 : decode cX6_held 18 = .ok (.iload_n 1, 1) := dk_27 (dk_at dksX6_held_0 18 rfl rfl)
theorem dX6_held_19 : decode cX6_held 19 = .ok (.bipush 6, 2) := dk_16 6 (dk_at dksX6_held_0 19 rfl rfl)
theorem dX6_held_21 : decode cX6_held 21 = .ok (.invokevirtual 78, 3) := dk_182 0 78 (dk_at dksX6_held_0 21 rfl rfl)
theorem dX6_held_24 : decode cX6_held 24 = .ok (.iconst 1, 1) := dk_4 (dk_at dksX6_held_1 0 rfl rfl)
theorem dX6_held_25 : decode cX6_held 25 = .ok (.isub, 1) := dk_100 (dk_at dksX6_held_1 1 rfl rfl)
theorem dX6_held_26 : decode cX6_held 26 = .ok (.invokestatic 152, 3) := dk_184 0 152 (dk_at dksX6_held_1 2 rfl rfl)
theorem dX6_held_29 : decode cX6_held 29 = .ok (.ifCond .eq 15, 3) := dk_153 0 15 (dk_at dksX6_held_1 5 rfl rfl)
theorem dX6_held_32 : decode cX6_held 32 = .ok (.aload_n 0, 1) := dk_42 (dk_at dksX6_held_1 8 rfl rfl)
theorem dX6_held_33 : decode cX6_held 33 = .ok (.iload_n 1, 1) := dk_27 (dk_at dksX6_held_1 9 rfl rfl)
theorem dX6_held_34 : decode cX6_held 34 = .ok (.bipush 8, 2) := dk_16 8 (dk_at dksX6_held_1 10 rfl rfl)
theorem dX6_held_36 : decode cX6_held 36 = .ok (.iload_n 2, 1) := dk_28 (dk_at dksX6_held_1 12 rfl rfl)
theorem dX6_held_37 : decode cX6_held 37 = .ok (.iadd, 1) := dk_96 (dk_at dksX6_held_1 13 rfl rfl)
theorem dX6_held_38 : decode cX6_held 38 = .ok (.invokevirtual 78, 3) := dk_182 0 78 (dk_at dksX6_held_1 14 rfl rfl)
theorem dX6_held_41 : decode cX6_held 41 = .ok (.goto 4, 3) := dk_167 0 4 (dk_at dksX6_held_1 17 rfl rfl)
theorem dX6_held_44 : decode cX6_held 44 = .ok (.iconst (-1), 1) := dk_2 (dk_at dksX6_held_1 20 rfl rfl)
theorem dX6_held_45 : decode cX6_held 45 = .ok (.ireturn, 1) := dk_172 (dk_at dksX6_held_1 21 rfl rfl)
abbrev cX6_steps : ByteArray := prog_19_method_85_code
def yX6_steps : MethodName := ⟨RX6, "steps", "(II)I"⟩
def dkwX6_steps_1 : List UInt8 := [167, 0, 9, 42, 27, 28, 182, 0, 75, 172]
abbrev dktX6_steps_1 : List UInt8 := dkwX6_steps_1 ++ []
def dkwX6_steps_0 : List UInt8 := [42, 3, 181, 0, 55, 42, 27, 182, 1, 68, 154, 0, 11, 42, 28, 182, 1, 68, 153, 0, 7, 3]
abbrev dktX6_steps_0 : List UInt8 := dkwX6_steps_0 ++ dktX6_steps_1
theorem dksX6_steps_0 : cX6_steps.data.toList.drop 0 = dktX6_steps_0 := by decide +kernel
theorem dksX6_steps_1 : cX6_steps.data.toList.drop 22 = dktX6_steps_1 := dk_seg dksX6_steps_0 22 rfl rfl
theorem dX6_steps_0 : decode cX6_steps 0 = .ok (.aload_n 0, 1) := dk_42 (dk_at dksX6_steps_0 0 rfl rfl)
theorem dX6_steps_1 : decode cX6_steps 1 = .ok (.iconst 0, 1) := dk_3 (dk_at dksX6_steps_0 1 rfl rfl)
theorem dX6_steps_2 : decode cX6_steps 2 = .ok (.putfield 55, 3) := dk_181 0 55 (dk_at dksX6_steps_0 2 rfl rfl)
theorem dX6_steps_5 : decode cX6_steps 5 = .ok (.aload_n 0, 1) := dk_42 (dk_at dksX6_steps_0 5 rfl rfl)
theorem dX6_steps_6 : decode cX6_steps 6 = .ok (.iload_n 1, 1) := dk_27 (dk_at dksX6_steps_0 6 rfl rfl)
theorem dX6_steps_7 : decode cX6_steps 7 = .ok (.invokevirtual 324, 3) := dk_182 1 68 (dk_at dksX6_steps_0 7 rfl rfl)
theorem dX6_steps_10 : decode cX6_steps 10 = .ok (.ifCond .ne 11, 3) := dk_154 0 11 (dk_at dksX6_steps_0 10 rfl rfl)
theorem dX6_steps_13 : decode cX6_steps 13 = .ok (.aload_n 0, 1) := dk_42 (dk_at dksX6_steps_0 13 rfl rfl)
theorem dX6_steps_14 : decode cX6_steps 14 = .ok (.iload_n 2, 1) := dk_28 (dk_at dksX6_steps_0 14 rfl rfl)
theorem dX6_steps_15 : decode cX6_steps 15 = .ok (.invokevirtual 324, 3) := dk_182 1 68 (dk_at dksX6_steps_0 15 rfl rfl)
theorem dX6_steps_18 : decode cX6_steps 18 = .ok (.ifCond .eq 7, 3) := dk_153 0 7 (dk_at dksX6_steps_0 18 rfl rfl)
theorem dX6_steps_21 : decode cX6_steps 21 = .ok (.iconst 0, 1) := dk_3 (dk_at dksX6_steps_0 21 rfl rfl)
theorem dX6_steps_22 : decode cX6_steps 22 = .ok (.goto 9, 3) := dk_167 0 9 (dk_at dksX6_steps_1 0 rfl rfl)
theorem dX6_steps_25 : decode cX6_steps 25 = .ok (.aload_n 0, 1) := dk_42 (dk_at dksX6_steps_1 3 rfl rfl)
theorem dX6_steps_26 : decode cX6_steps 26 = .ok (.iload_n 1, 1) := dk_27 (dk_at dksX6_steps_1 4 rfl rfl)
theorem dX6_steps_27 : decode cX6_steps 27 = .ok (.iload_n 2, 1) := dk_28 (dk_at dksX6_steps_1 5 rfl rfl)
theorem dX6_steps_28 : decode cX6_steps 28 = .ok (.invokevirtual 75, 3) := dk_182 0 75 (dk_at dksX6_steps_1 6 rfl rfl)
theorem dX6_steps_31 : decode cX6_steps 31 = .ok (.ireturn, 1) := dk_172 (dk_at dksX6_steps_1 9 rfl rfl)
abbrev cX6_toScanner : ByteArray := prog_19_method_89_code
def yX6_toScanner : MethodName := ⟨RX6, "toScanner", "(I)I"⟩
def dkwX6_toScanner_1 : List UInt8 := [27, 182, 1, 92, 167, 0, 4, 2, 172]
abbrev dktX6_toScanner_1 : List UInt8 := dkwX6_toScanner_1 ++ []
def dkwX6_toScanner_0 : List UInt8 := [42, 3, 181, 0, 55, 42, 27, 182, 1, 74, 153, 0, 5, 3, 172, 42, 27, 182, 0, 66, 153, 0, 11, 42]
abbrev dktX6_toScanner_0 : List UInt8 := dkwX6_toScanner_0 ++ dktX6_toScanner_1
theorem dksX6_toScanner_0 : cX6_toScanner.data.toList.drop 0 = dktX6_toScanner_0 := by decide +kernel
theorem dksX6_toScanner_1 : cX6_toScanner.data.toList.drop 24 = dktX6_toScanner_1 := dk_seg dksX6_toScanner_0 24 rfl rfl
theorem dX6_toScanner_0 : decode cX6_toScanner 0 = .ok (.aload_n 0, 1) := dk_42 (dk_at dksX6_toScanner_0 0 rfl rfl)
theorem dX6_toScanner_1 : decode cX6_toScanner 1 = .ok (.iconst 0, 1) := dk_3 (dk_at dksX6_toScanner_0 1 rfl rfl)
theorem dX6_toScanner_2 : decode cX6_toScanner 2 = .ok (.putfield 55, 3) := dk_181 0 55 (dk_at dksX6_toScanner_0 2 rfl rfl)
theorem dX6_toScanner_5 : decode cX6_toScanner 5 = .ok (.aload_n 0, 1) := dk_42 (dk_at dksX6_toScanner_0 5 rfl rfl)
theorem dX6_toScanner_6 : decode cX6_toScanner 6 = .ok (.iload_n 1, 1) := dk_27 (dk_at dksX6_toScanner_0 6 rfl rfl)
theorem dX6_toScanner_7 : decode cX6_toScanner 7 = .ok (.invokevirtual 330, 3) := dk_182 1 74 (dk_at dksX6_toScanner_0 7 rfl rfl)
theorem dX6_toScanner_10 : decode cX6_toScanner 10 = .ok (.ifCond .eq 5, 3) := dk_153 0 5 (dk_at dksX6_toScanner_0 10 rfl rfl)
theorem dX6_toScanner_13 : decode cX6_toScanner 13 = .ok (.iconst 0, 1) := dk_3 (dk_at dksX6_toScanner_0 13 rfl rfl)
theorem dX6_toScanner_14 : decode cX6_toScanner 14 = .ok (.ireturn, 1) := dk_172 (dk_at dksX6_toScanner_0 14 rfl rfl)
theorem dX6_toScanner_15 : decode cX6_toScanner 15 = .ok (.aload_n 0, 1) := dk_42 (dk_at dksX6_toScanner_0 15 rfl rfl)
theorem dX6_toScanner_16 : decode cX6_toScanner 16 = .ok (.iload_n 1, 1) := dk_27 (dk_at dksX6_toScanner_0 16 rfl rfl)
theorem dX6_toScanner_17 : decode cX6_toScanner 17 = .ok (.invokevirtual 66, 3) := dk_182 0 66 (dk_at dksX6_toScanner_0 17 rfl rfl)
theorem dX6_toScanner_20 : decode cX6_toScanner 20 = .ok (.ifCond .eq 11, 3) := dk_153 0 11 (dk_at dksX6_toScanner_0 20 rfl rfl)
theorem dX6_toScanner_23 : decode cX6_toScanner 23 = .ok (.aload_n 0, 1) := dk_42 (dk_at dksX6_toScanner_0 23 rfl rfl)
theorem dX6_toScanner_24 : decode cX6_toScanner 24 = .ok (.iload_n 1, 1) := dk_27 (dk_at dksX6_toScanner_1 0 rfl rfl)
theorem dX6_toScanner_25 : decode cX6_toScanner 25 = .ok (.invokevirtual 348, 3) := dk_182 1 92 (dk_at dksX6_toScanner_1 1 rfl rfl)
theorem dX6_toScanner_28 : decode cX6_toScanner 28 = .ok (.goto 4, 3) := dk_167 0 4 (dk_at dksX6_toScanner_1 4 rfl rfl)
theorem dX6_toScanner_31 : decode cX6_toScanner 31 = .ok (.iconst (-1), 1) := dk_2 (dk_at dksX6_toScanner_1 7 rfl rfl)
theorem dX6_toScanner_32 : decode cX6_toScanner 32 = .ok (.ireturn, 1) := dk_172 (dk_at dksX6_toScanner_1 8 rfl rfl)
abbrev cX6_scannerIn : ByteArray := prog_19_method_87_code
def yX6_scannerIn : MethodName := ⟨RX6, "scannerIn", "(I)I"⟩
def dkwX6_scannerIn_2 : List UInt8 := [21, 4, 184, 1, 89, 61, 132, 3, 1, 167, 255, 205, 28, 172]
abbrev dktX6_scannerIn_2 : List UInt8 := dkwX6_scannerIn_2 ++ []
def dkwX6_scannerIn_1 : List UInt8 := [180, 0, 7, 16, 19, 29, 96, 46, 182, 1, 86, 54, 4, 28, 2, 160, 0, 8, 21, 4, 167, 0, 9, 28]
abbrev dktX6_scannerIn_1 : List UInt8 := dkwX6_scannerIn_1 ++ dktX6_scannerIn_2
def dkwX6_scannerIn_0 : List UInt8 := [2, 61, 3, 62, 29, 42, 180, 0, 7, 5, 46, 162, 0, 47, 42, 42, 27, 7, 182, 0, 62, 42]
abbrev dktX6_scannerIn_0 : List UInt8 := dkwX6_scannerIn_0 ++ dktX6_scannerIn_1
theorem dksX6_scannerIn_0 : cX6_scannerIn.data.toList.drop 0 = dktX6_scannerIn_0 := by decide +kernel
theorem dksX6_scannerIn_1 : cX6_scannerIn.data.toList.drop 22 = dktX6_scannerIn_1 := dk_seg dksX6_scannerIn_0 22 rfl rfl
theorem dksX6_scannerIn_2 : cX6_scannerIn.data.toList.drop 46 = dktX6_scannerIn_2 := dk_seg dksX6_scannerIn_1 24 rfl rfl
theorem dX6_scannerIn_0 : decode cX6_scannerIn 0 = .ok (.iconst (-1), 1) := dk_2 (dk_at dksX6_scannerIn_0 0 rfl rfl)
theorem dX6_scannerIn_1 : decode cX6_scannerIn 1 = .ok (.istore_n 2, 1) := dk_61 (dk_at dksX6_scannerIn_0 1 rfl rfl)
theorem dX6_scannerIn_2 : decode cX6_scannerIn 2 = .ok (.iconst 0, 1) := dk_3 (dk_at dksX6_scannerIn_0 2 rfl rfl)
theorem dX6_scannerIn_3 : decode cX6_scannerIn 3 = .ok (.istore_n 3, 1) := dk_62 (dk_at dksX6_scannerIn_0 3 rfl rfl)
theorem dX6_scannerIn_4 : decode cX6_scannerIn 4 = .ok (.iload_n 3, 1) := dk_29 (dk_at dksX6_scannerIn_0 4 rfl rfl)
theorem dX6_scannerIn_5 : decode cX6_scannerIn 5 = .ok (.aload_n 0, 1) := dk_42 (dk_at dksX6_scannerIn_0 5 rfl rfl)
theorem dX6_scannerIn_6 : decode cX6_scannerIn 6 = .ok (.getfield 7, 3) := dk_180 0 7 (dk_at dksX6_scannerIn_0 6 rfl rfl)
theorem dX6_scannerIn_9 : decode cX6_scannerIn 9 = .ok (.iconst 2, 1) := dk_5 (dk_at dksX6_scannerIn_0 9 rfl rfl)
theorem dX6_scannerIn_10 : decode cX6_scannerIn 10 = .ok (.iaload, 1) := dk_46 (dk_at dksX6_scannerIn_0 10 rfl rfl)
theorem dX6_scannerIn_11 : decode cX6_scannerIn 11 = .ok (.if_icmp .ge 47, 3) := dk_162 0 47 (dk_at dksX6_scannerIn_0 11 rfl rfl)
theorem dX6_scannerIn_14 : decode cX6_scannerIn 14 = .ok (.aload_n 0, 1) := dk_42 (dk_at dksX6_scannerIn_0 14 rfl rfl)
theorem dX6_scannerIn_15 : decode cX6_scannerIn 15 = .ok (.aload_n 0, 1) := dk_42 (dk_at dksX6_scannerIn_0 15 rfl rfl)
theorem dX6_scannerIn_16 : decode cX6_scannerIn 16 = .ok (.iload_n 1, 1) := dk_27 (dk_at dksX6_scannerIn_0 16 rfl rfl)
theorem dX6_scannerIn_17 : decode cX6_scannerIn 17 = .ok (.iconst 4, 1) := dk_7 (dk_at dksX6_scannerIn_0 17 rfl rfl)
theorem dX6_scannerIn_18 : decode cX6_scannerIn 18 = .ok (.invokevirtual 62, 3) := dk_182 0 62 (dk_at dksX6_scannerIn_0 18 rfl rfl)
theorem dX6_scannerIn_21 : decode cX6_scannerIn 21 = .ok (.aload_n 0, 1) := dk_42 (dk_at dksX6_scannerIn_0 21 rfl rfl)
theorem dX6_scannerIn_22 : decode cX6_scannerIn 22 = .ok (.getfield 7, 3) := dk_180 0 7 (dk_at dksX6_scannerIn_1 0 rfl rfl)
theorem dX6_scannerIn_25 : decode cX6_scannerIn 25 = .ok (.bipush 19, 2) := dk_16 19 (dk_at dksX6_scannerIn_1 3 rfl rfl)
theorem dX6_scannerIn_27 : decode cX6_scannerIn 27 = .ok (.iload_n 3, 1) := dk_29 (dk_at dksX6_scannerIn_1 5 rfl rfl)
theorem dX6_scannerIn_28 : decode cX6_scannerIn 28 = .ok (.iadd, 1) := dk_96 (dk_at dksX6_scannerIn_1 6 rfl rfl)
theorem dX6_scannerIn_29 : decode cX6_scannerIn 29 = .ok (.iaload, 1) := dk_46 (dk_at dksX6_scannerIn_1 7 rfl rfl)
theorem dX6_scannerIn_30 : decode cX6_scannerIn 30 = .ok (.invokevirtual 342, 3) := dk_182 1 86 (dk_at dksX6_scannerIn_1 8 rfl rfl)
theorem dX6_scannerIn_33 : decode cX6_scannerIn 33 = .ok (.istore 4, 2) := dk_54 4 (dk_at dksX6_scannerIn_1 11 rfl rfl)
theorem dX6_scannerIn_35 : decode cX6_scannerIn 35 = .ok (.iload_n 2, 1) := dk_28 (dk_at dksX6_scannerIn_1 13 rfl rfl)
theorem dX6_scannerIn_36 : decode cX6_scannerIn 36 = .ok (.iconst (-1), 1) := dk_2 (dk_at dksX6_scannerIn_1 14 rfl rfl)
theorem dX6_scannerIn_37 : decode cX6_scannerIn 37 = .ok (.if_icmp .ne 8, 3) := dk_160 0 8 (dk_at dksX6_scannerIn_1 15 rfl rfl)
theorem dX6_scannerIn_40 : decode cX6_scannerIn 40 = .ok (.iload 4, 2) := dk_21 4 (dk_at dksX6_scannerIn_1 18 rfl rfl)
theorem dX6_scannerIn_42 : decode cX6_scannerIn 42 = .ok (.goto 9, 3) := dk_167 0 9 (dk_at dksX6_scannerIn_1 20 rfl rfl)
theorem dX6_scannerIn_45 : decode cX6_scannerIn 45 = .ok (.iload_n 2, 1) := dk_28 (dk_at dksX6_scannerIn_1 23 rfl rfl)
theorem dX6_scannerIn_46 : decode cX6_scannerIn 46 = .ok (.iload 4, 2) := dk_21 4 (dk_at dksX6_scannerIn_2 0 rfl rfl)
theorem dX6_scannerIn_48 : decode cX6_scannerIn 48 = .ok (.invokestatic 345, 3) := dk_184 1 89 (dk_at dksX6_scannerIn_2 2 rfl rfl)
theorem dX6_scannerIn_51 : decode cX6_scannerIn 51 = .ok (.istore_n 2, 1) := dk_61 (dk_at dksX6_scannerIn_2 5 rfl rfl)
theorem dX6_scannerIn_52 : decode cX6_scannerIn 52 = .ok (.iinc 3 1, 3) := dk_132 3 1 (dk_at dksX6_scannerIn_2 6 rfl rfl)
theorem dX6_scannerIn_55 : decode cX6_scannerIn 55 = .ok (.goto (-51), 3) := dk_167 255 205 (dk_at dksX6_scannerIn_2 9 rfl rfl)
theorem dX6_scannerIn_58 : decode cX6_scannerIn 58 = .ok (.iload_n 2, 1) := dk_28 (dk_at dksX6_scannerIn_2 12 rfl rfl)
theorem dX6_scannerIn_59 : decode cX6_scannerIn 59 = .ok (.ireturn, 1) := dk_172 (dk_at dksX6_scannerIn_2 13 rfl rfl)
abbrev cX6_ahead : ByteArray := prog_19_method_86_code
def yX6_ahead : MethodName := ⟨RX6, "ahead", "(II)I"⟩
def dkwX6_ahead_0 : List UInt8 := [42, 27, 28, 182, 0, 75, 62, 29, 154, 0, 12, 42, 180, 0, 7, 3, 46, 167, 0, 4, 29, 172]
abbrev dktX6_ahead_0 : List UInt8 := dkwX6_ahead_0 ++ []
theorem dksX6_ahead_0 : cX6_ahead.data.toList.drop 0 = dktX6_ahead_0 := by decide +kernel
theorem dX6_ahead_0 : decode cX6_ahead 0 = .ok (.aload_n 0, 1) := dk_42 (dk_at dksX6_ahead_0 0 rfl rfl)
theorem dX6_ahead_1 : decode cX6_ahead 1 = .ok (.iload_n 1, 1) := dk_27 (dk_at dksX6_ahead_0 1 rfl rfl)
theorem dX6_ahead_2 : decode cX6_ahead 2 = .ok (.iload_n 2, 1) := dk_28 (dk_at dksX6_ahead_0 2 rfl rfl)
theorem dX6_ahead_3 : decode cX6_ahead 3 = .ok (.invokevirtual 75, 3) := dk_182 0 75 (dk_at dksX6_ahead_0 3 rfl rfl)
theorem dX6_ahead_6 : decode cX6_ahead 6 = .ok (.istore_n 3, 1) := dk_62 (dk_at dksX6_ahead_0 6 rfl rfl)
theorem dX6_ahead_7 : decode cX6_ahead 7 = .ok (.iload_n 3, 1) := dk_29 (dk_at dksX6_ahead_0 7 rfl rfl)
theorem dX6_ahead_8 : decode cX6_ahead 8 = .ok (.ifCond .ne 12, 3) := dk_154 0 12 (dk_at dksX6_ahead_0 8 rfl rfl)
theorem dX6_ahead_11 : decode cX6_ahead 11 = .ok (.aload_n 0, 1) := dk_42 (dk_at dksX6_ahead_0 11 rfl rfl)
theorem dX6_ahead_12 : decode cX6_ahead 12 = .ok (.getfield 7, 3) := dk_180 0 7 (dk_at dksX6_ahead_0 12 rfl rfl)
theorem dX6_ahead_15 : decode cX6_ahead 15 = .ok (.iconst 0, 1) := dk_3 (dk_at dksX6_ahead_0 15 rfl rfl)
theorem dX6_ahead_16 : decode cX6_ahead 16 = .ok (.iaload, 1) := dk_46 (dk_at dksX6_ahead_0 16 rfl rfl)
theorem dX6_ahead_17 : decode cX6_ahead 17 = .ok (.goto 4, 3) := dk_167 0 4 (dk_at dksX6_ahead_0 17 rfl rfl)
theorem dX6_ahead_20 : decode cX6_ahead 20 = .ok (.iload_n 3, 1) := dk_29 (dk_at dksX6_ahead_0 20 rfl rfl)
theorem dX6_ahead_21 : decode cX6_ahead 21 = .ok (.ireturn, 1) := dk_172 (dk_at dksX6_ahead_0 21 rfl rfl)
abbrev cX6_toChute : ByteArray := prog_19_method_90_code
def yX6_toChute : MethodName := ⟨RX6, "toChute", "(I)I"⟩
def dkwX6_toChute_1 : List UInt8 := [27, 182, 1, 95, 167, 0, 4, 2, 172]
abbrev dktX6_toChute_1 : List UInt8 := dkwX6_toChute_1 ++ []
def dkwX6_toChute_0 : List UInt8 := [42, 3, 181, 0, 55, 42, 27, 182, 1, 74, 153, 0, 5, 3, 172, 42, 27, 182, 0, 104, 153, 0, 11, 42]
abbrev dktX6_toChute_0 : List UInt8 := dkwX6_toChute_0 ++ dktX6_toChute_1
theorem dksX6_toChute_0 : cX6_toChute.data.toList.drop 0 = dktX6_toChute_0 := by decide +kernel
theorem dksX6_toChute_1 : cX6_toChute.data.toList.drop 24 = dktX6_toChute_1 := dk_seg dksX6_toChute_0 24 rfl rfl
theorem dX6_toChute_0 : decode cX6_toChute 0 = .ok (.aload_n 0, 1) := dk_42 (dk_at dksX6_toChute_0 0 rfl rfl)
theorem dX6_toChute_1 : decode cX6_toChute 1 = .ok (.iconst 0, 1) := dk_3 (dk_at dksX6_toChute_0 1 rfl rfl)
theorem dX6_toChute_2 : decode cX6_toChute 2 = .ok (.putfield 55, 3) := dk_181 0 55 (dk_at dksX6_toChute_0 2 rfl rfl)
theorem dX6_toChute_5 : decode cX6_toChute 5 = .ok (.aload_n 0, 1) := dk_42 (dk_at dksX6_toChute_0 5 rfl rfl)
theorem dX6_toChute_6 : decode cX6_toChute 6 = .ok (.iload_n 1, 1) := dk_27 (dk_at dksX6_toChute_0 6 rfl rfl)
theorem dX6_toChute_7 : decode cX6_toChute 7 = .ok (.invokevirtual 330, 3) := dk_182 1 74 (dk_at dksX6_toChute_0 7 rfl rfl)
theorem dX6_toChute_10 : decode cX6_toChute 10 = .ok (.ifCond .eq 5, 3) := dk_153 0 5 (dk_at dksX6_toChute_0 10 rfl rfl)
theorem dX6_toChute_13 : decode cX6_toChute 13 = .ok (.iconst 0, 1) := dk_3 (dk_at dksX6_toChute_0 13 rfl rfl)
theorem dX6_toChute_14 : decode cX6_toChute 14 = .ok (.ireturn, 1) := dk_172 (dk_at dksX6_toChute_0 14 rfl rfl)
theorem dX6_toChute_15 : decode cX6_toChute 15 = .ok (.aload_n 0, 1) := dk_42 (dk_at dksX6_toChute_0 15 rfl rfl)
theorem dX6_toChute_16 : decode cX6_toChute 16 = .ok (.iload_n 1, 1) := dk_27 (dk_at dksX6_toChute_0 16 rfl rfl)
theorem dX6_toChute_17 : decode cX6_toChute 17 = .ok (.invokevirtual 104, 3) := dk_182 0 104 (dk_at dksX6_toChute_0 17 rfl rfl)
theorem dX6_toChute_20 : decode cX6_toChute 20 = .ok (.ifCond .eq 11, 3) := dk_153 0 11 (dk_at dksX6_toChute_0 20 rfl rfl)
theorem dX6_toChute_23 : decode cX6_toChute 23 = .ok (.aload_n 0, 1) := dk_42 (dk_at dksX6_toChute_0 23 rfl rfl)
theorem dX6_toChute_24 : decode cX6_toChute 24 = .ok (.iload_n 1, 1) := dk_27 (dk_at dksX6_toChute_1 0 rfl rfl)
theorem dX6_toChute_25 : decode cX6_toChute 25 = .ok (.invokevirtual 351, 3) := dk_182 1 95 (dk_at dksX6_toChute_1 1 rfl rfl)
theorem dX6_toChute_28 : decode cX6_toChute 28 = .ok (.goto 4, 3) := dk_167 0 4 (dk_at dksX6_toChute_1 4 rfl rfl)
theorem dX6_toChute_31 : decode cX6_toChute 31 = .ok (.iconst (-1), 1) := dk_2 (dk_at dksX6_toChute_1 7 rfl rfl)
theorem dX6_toChute_32 : decode cX6_toChute 32 = .ok (.ireturn, 1) := dk_172 (dk_at dksX6_toChute_1 8 rfl rfl)
abbrev cX6_chuteIn : ByteArray := prog_19_method_88_code
def yX6_chuteIn : MethodName := ⟨RX6, "chuteIn", "(I)I"⟩
def dkwX6_chuteIn_0 : List UInt8 := [42, 42, 27, 16, 6, 182, 0, 62, 42, 42, 27, 3, 182, 0, 62, 3, 182, 0, 78, 182, 1, 86, 172]
abbrev dktX6_chuteIn_0 : List UInt8 := dkwX6_chuteIn_0 ++ []
theorem dksX6_chuteIn_0 : cX6_chuteIn.data.toList.drop 0 = dktX6_chuteIn_0 := by decide +kernel
theorem dX6_chuteIn_0 : decode cX6_chuteIn 0 = .ok (.aload_n 0, 1) := dk_42 (dk_at dksX6_chuteIn_0 0 rfl rfl)
theorem dX6_chuteIn_1 : decode cX6_chuteIn 1 = .ok (.aload_n 0, 1) := dk_42 (dk_at dksX6_chuteIn_0 1 rfl rfl)
theorem dX6_chuteIn_2 : decode cX6_chuteIn 2 = .ok (.iload_n 1, 1) := dk_27 (dk_at dksX6_chuteIn_0 2 rfl rfl)
theorem dX6_chuteIn_3 : decode cX6_chuteIn 3 = .ok (.bipush 6, 2) := dk_16 6 (dk_at dksX6_chuteIn_0 3 rfl rfl)
theorem dX6_chuteIn_5 : decode cX6_chuteIn 5 = .ok (.invokevirtual 62, 3) := dk_182 0 62 (dk_at dksX6_chuteIn_0 5 rfl rfl)
theorem dX6_chuteIn_8 : decode cX6_chuteIn 8 = .ok (.aload_n 0, 1) := dk_42 (dk_at dksX6_chuteIn_0 8 rfl rfl)
theorem dX6_chuteIn_9 : decode cX6_chuteIn 9 = .ok (.aload_n 0, 1) := dk_42 (dk_at dksX6_chuteIn_0 9 rfl rfl)
theorem dX6_chuteIn_10 : decode cX6_chuteIn 10 = .ok (.iload_n 1, 1) := dk_27 (dk_at dksX6_chuteIn_0 10 rfl rfl)
theorem dX6_chuteIn_11 : decode cX6_chuteIn 11 = .ok (.iconst 0, 1) := dk_3 (dk_at dksX6_chuteIn_0 11 rfl rfl)
theorem dX6_chuteIn_12 : decode cX6_chuteIn 12 = .ok (.invokevirtual 62, 3) := dk_182 0 62 (dk_at dksX6_chuteIn_0 12 rfl rfl)
theorem dX6_chuteIn_15 : decode cX6_chuteIn 15 = .ok (.iconst 0, 1) := dk_3 (dk_at dksX6_chuteIn_0 15 rfl rfl)
theorem dX6_chuteIn_16 : decode cX6_chuteIn 16 = .ok (.invokevirtual 78, 3) := dk_182 0 78 (dk_at dksX6_chuteIn_0 16 rfl rfl)
theorem dX6_chuteIn_19 : decode cX6_chuteIn 19 = .ok (.invokevirtual 342, 3) := dk_182 1 86 (dk_at dksX6_chuteIn_0 19 rfl rfl)
theorem dX6_chuteIn_22 : decode cX6_chuteIn 22 = .ok (.ireturn, 1) := dk_172 (dk_at dksX6_chuteIn_0 22 rfl rfl)
abbrev cX6_why : ByteArray := prog_19_method_94_code
def yX6_why : MethodName := ⟨RX6, "why", "(II)I"⟩
def dkwX6_why_2 : List UInt8 := [167, 0, 21, 28, 4, 160, 0, 11, 42, 27, 182, 1, 101, 167, 0, 8, 42, 27, 182, 1, 104, 172]
abbrev dktX6_why_2 : List UInt8 := dkwX6_why_2 ++ []
def dkwX6_why_1 : List UInt8 := [167, 0, 4, 3, 5, 182, 1, 58, 153, 0, 5, 3, 172, 28, 154, 0, 11, 42, 27, 182, 1, 98]
abbrev dktX6_why_1 : List UInt8 := dkwX6_why_1 ++ dktX6_why_2
def dkwX6_why_0 : List UInt8 := [42, 3, 181, 0, 55, 42, 27, 182, 1, 74, 154, 0, 25, 42, 28, 3, 5, 184, 0, 152, 154, 0, 7, 4]
abbrev dktX6_why_0 : List UInt8 := dkwX6_why_0 ++ dktX6_why_1
theorem dksX6_why_0 : cX6_why.data.toList.drop 0 = dktX6_why_0 := by decide +kernel
theorem dksX6_why_1 : cX6_why.data.toList.drop 24 = dktX6_why_1 := dk_seg dksX6_why_0 24 rfl rfl
theorem dksX6_why_2 : cX6_why.data.toList.drop 46 = dktX6_why_2 := dk_seg dksX6_why_1 22 rfl rfl
theorem dX6_why_0 : decode cX6_why 0 = .ok (.aload_n 0, 1) := dk_42 (dk_at dksX6_why_0 0 rfl rfl)
theorem dX6_why_1 : decode cX6_why 1 = .ok (.iconst 0, 1) := dk_3 (dk_at dksX6_why_0 1 rfl rfl)
theorem dX6_why_2 : decode cX6_why 2 = .ok (.putfield 55, 3) := dk_181 0 55 (dk_at dksX6_why_0 2 rfl rfl)
theorem dX6_why_5 : decode cX6_why 5 = .ok (.aload_n 0, 1) := dk_42 (dk_at dksX6_why_0 5 rfl rfl)
theorem dX6_why_6 : decode cX6_why 6 = .ok (.iload_n 1, 1) := dk_27 (dk_at dksX6_why_0 6 rfl rfl)
theorem dX6_why_7 : decode cX6_why 7 = .ok (.invokevirtual 330, 3) := dk_182 1 74 (dk_at dksX6_why_0 7 rfl rfl)
theorem dX6_why_10 : decode cX6_why 10 = .ok (.ifCond .ne 25, 3) := dk_154 0 25 (dk_at dksX6_why_0 10 rfl rfl)
theorem dX6_why_13 : decode cX6_why 13 = .ok (.aload_n 0, 1) := dk_42 (dk_at dksX6_why_0 13 rfl rfl)
theorem dX6_why_14 : decode cX6_why 14 = .ok (.iload_n 2, 1) := dk_28 (dk_at dksX6_why_0 14 rfl rfl)
theorem dX6_why_15 : decode cX6_why 15 = .ok (.iconst 0, 1) := dk_3 (dk_at dksX6_why_0 15 rfl rfl)
theorem dX6_why_16 : decode cX6_why 16 = .ok (.iconst 2, 1) := dk_5 (dk_at dksX6_why_0 16 rfl rfl)
theorem dX6_why_17 : decode cX6_why 17 = .ok (.invokestatic 152, 3) := dk_184 0 152 (dk_at dksX6_why_0 17 rfl rfl)
theorem dX6_why_20 : decode cX6_why 20 = .ok (.ifCond .ne 7, 3) := dk_154 0 7 (dk_at dksX6_why_0 20 rfl rfl)
theorem dX6_why_23 : decode cX6_why 23 = .ok (.iconst 1, 1) := dk_4 (dk_at dksX6_why_0 23 rfl rfl)
theorem dX6_why_24 : decode cX6_why 24 = .ok (.goto 4, 3) := dk_167 0 4 (dk_at dksX6_why_1 0 rfl rfl)
theorem dX6_why_27 : decode cX6_why 27 = .ok (.iconst 0, 1) := dk_3 (dk_at dksX6_why_1 3 rfl rfl)
theorem dX6_why_28 : decode cX6_why 28 = .ok (.iconst 2, 1) := dk_5 (dk_at dksX6_why_1 4 rfl rfl)
theorem dX6_why_29 : decode cX6_why 29 = .ok (.invokevirtual 314, 3) := dk_182 1 58 (dk_at dksX6_why_1 5 rfl rfl)
theorem dX6_why_32 : decode cX6_why 32 = .ok (.ifCond .eq 5, 3) := dk_153 0 5 (dk_at dksX6_why_1 8 rfl rfl)
theorem dX6_why_35 : decode cX6_why 35 = .ok (.iconst 0, 1) := dk_3 (dk_at dksX6_why_1 11 rfl rfl)
theorem dX6_why_36 : decode cX6_why 36 = .ok (.ireturn, 1) := dk_172 (dk_at dksX6_why_1 12 rfl rfl)
theorem dX6_why_37 : decode cX6_why 37 = .ok (.iload_n 2, 1) := dk_28 (dk_at dksX6_why_1 13 rfl rfl)
theorem dX6_why_38 : decode cX6_why 38 = .ok (.ifCond .ne 11, 3) := dk_154 0 11 (dk_at dksX6_why_1 14 rfl rfl)
theorem dX6_why_41 : decode cX6_why 41 = .ok (.aload_n 0, 1) := dk_42 (dk_at dksX6_why_1 17 rfl rfl)
theorem dX6_why_42 : decode cX6_why 42 = .ok (.iload_n 1, 1) := dk_27 (dk_at dksX6_why_1 18 rfl rfl)
theorem dX6_why_43 : decode cX6_why 43 = .ok (.invokevirtual 354, 3) := dk_182 1 98 (dk_at dksX6_why_1 19 rfl rfl)
theorem dX6_why_46 : decode cX6_why 46 = .ok (.goto 21, 3) := dk_167 0 21 (dk_at dksX6_why_2 0 rfl rfl)
theorem dX6_why_49 : decode cX6_why 49 = .ok (.iload_n 2, 1) := dk_28 (dk_at dksX6_why_2 3 rfl rfl)
theorem dX6_why_50 : decode cX6_why 50 = .ok (.iconst 1, 1) := dk_4 (dk_at dksX6_why_2 4 rfl rfl)
theorem dX6_why_51 : decode cX6_why 51 = .ok (.if_icmp .ne 11, 3) := dk_160 0 11 (dk_at dksX6_why_2 5 rfl rfl)
theorem dX6_why_54 : decode cX6_why 54 = .ok (.aload_n 0, 1) := dk_42 (dk_at dksX6_why_2 8 rfl rfl)
theorem dX6_why_55 : decode cX6_why 55 = .ok (.iload_n 1, 1) := dk_27 (dk_at dksX6_why_2 9 rfl rfl)
theorem dX6_why_56 : decode cX6_why 56 = .ok (.invokevirtual 357, 3) := dk_182 1 101 (dk_at dksX6_why_2 10 rfl rfl)
theorem dX6_why_59 : decode cX6_why 59 = .ok (.goto 8, 3) := dk_167 0 8 (dk_at dksX6_why_2 13 rfl rfl)
theorem dX6_why_62 : decode cX6_why 62 = .ok (.aload_n 0, 1) := dk_42 (dk_at dksX6_why_2 16 rfl rfl)
theorem dX6_why_63 : decode cX6_why 63 = .ok (.iload_n 1, 1) := dk_27 (dk_at dksX6_why_2 17 rfl rfl)
theorem dX6_why_64 : decode cX6_why 64 = .ok (.invokevirtual 360, 3) := dk_182 1 104 (dk_at dksX6_why_2 18 rfl rfl)
theorem dX6_why_67 : decode cX6_why 67 = .ok (.ireturn, 1) := dk_172 (dk_at dksX6_why_2 21 rfl rfl)
abbrev cX6_reasonOf : ByteArray := prog_19_method_91_code
def yX6_reasonOf : MethodName := ⟨RX6, "reasonOf", "(I)I"⟩
def dkwX6_reasonOf_4 : List UInt8 := [16, 7, 172]
abbrev dktX6_reasonOf_4 : List UInt8 := dkwX6_reasonOf_4 ++ []
def dkwX6_reasonOf_3 : List UInt8 := [153, 0, 5, 8, 172, 42, 27, 182, 0, 94, 42, 28, 5, 182, 0, 78, 164, 0, 8, 16, 6, 167, 0, 5]
abbrev dktX6_reasonOf_3 : List UInt8 := dkwX6_reasonOf_3 ++ dktX6_reasonOf_4
def dkwX6_reasonOf_2 : List UInt8 := [182, 0, 62, 158, 0, 5, 6, 172, 42, 27, 182, 0, 104, 154, 0, 5, 7, 172, 42, 28, 182, 0, 107]
abbrev dktX6_reasonOf_2 : List UInt8 := dkwX6_reasonOf_2 ++ dktX6_reasonOf_3
def dkwX6_reasonOf_1 : List UInt8 := [154, 0, 20, 42, 27, 16, 7, 182, 0, 62, 28, 160, 0, 7, 3, 167, 0, 4, 5, 172, 42, 27, 4]
abbrev dktX6_reasonOf_1 : List UInt8 := dkwX6_reasonOf_1 ++ dktX6_reasonOf_2
def dkwX6_reasonOf_0 : List UInt8 := [42, 27, 3, 182, 0, 62, 61, 42, 27, 6, 182, 0, 62, 6, 160, 0, 5, 4, 172, 42, 27, 182, 0, 66]
abbrev dktX6_reasonOf_0 : List UInt8 := dkwX6_reasonOf_0 ++ dktX6_reasonOf_1
theorem dksX6_reasonOf_0 : cX6_reasonOf.data.toList.drop 0 = dktX6_reasonOf_0 := by decide +kernel
theorem dksX6_reasonOf_1 : cX6_reasonOf.data.toList.drop 24 = dktX6_reasonOf_1 := dk_seg dksX6_reasonOf_0 24 rfl rfl
theorem dksX6_reasonOf_2 : cX6_reasonOf.data.toList.drop 47 = dktX6_reasonOf_2 := dk_seg dksX6_reasonOf_1 23 rfl rfl
theorem dksX6_reasonOf_3 : cX6_reasonOf.data.toList.drop 70 = dktX6_reasonOf_3 := dk_seg dksX6_reasonOf_2 23 rfl rfl
theorem dksX6_reasonOf_4 : cX6_reasonOf.data.toList.drop 94 = dktX6_reasonOf_4 := dk_seg dksX6_reasonOf_3 24 rfl rfl
theorem dX6_reasonOf_0 : decode cX6_reasonOf 0 = .ok (.aload_n 0, 1) := dk_42 (dk_at dksX6_reasonOf_0 0 rfl rfl)
theorem dX6_reasonOf_1 : decode cX6_reasonOf 1 = .ok (.iload_n 1, 1) := dk_27 (dk_at dksX6_reasonOf_0 1 rfl rfl)
theorem dX6_reasonOf_2 : decode cX6_reasonOf 2 = .ok (.iconst 0, 1) := dk_3 (dk_at dksX6_reasonOf_0 2 rfl rfl)
theorem dX6_reasonOf_3 : decode cX6_reasonOf 3 = .ok (.invokevirtual 62, 3) := dk_182 0 62 (dk_at dksX6_reasonOf_0 3 rfl rfl)
theorem dX6_reasonOf_6 : decode cX6_reasonOf 6 = .ok (.istore_n 2, 1) := dk_61 (dk_at dksX6_reasonOf_0 6 rfl rfl)
theorem dX6_reasonOf_7 : decode cX6_reasonOf 7 = .ok (.aload_n 0, 1) := dk_42 (dk_at dksX6_reasonOf_0 7 rfl rfl)
theorem dX6_reasonOf_8 : decode cX6_reasonOf 8 = .ok (.iload_n 1, 1) := dk_27 (dk_at dksX6_reasonOf_0 8 rfl rfl)
theorem dX6_reasonOf_9 : decode cX6_reasonOf 9 = .ok (.iconst 3, 1) := dk_6 (dk_at dksX6_reasonOf_0 9 rfl rfl)
theorem dX6_reasonOf_10 : decode cX6_reasonOf 10 = .ok (.invokevirtual 62, 3) := dk_182 0 62 (dk_at dksX6_reasonOf_0 10 rfl rfl)
theorem dX6_reasonOf_13 : decode cX6_reasonOf 13 = .ok (.iconst 3, 1) := dk_6 (dk_at dksX6_reasonOf_0 13 rfl rfl)
theorem dX6_reasonOf_14 : decode cX6_reasonOf 14 = .ok (.if_icmp .ne 5, 3) := dk_160 0 5 (dk_at dksX6_reasonOf_0 14 rfl rfl)
theorem dX6_reasonOf_17 : decode cX6_reasonOf 17 = .ok (.iconst 1, 1) := dk_4 (dk_at dksX6_reasonOf_0 17 rfl rfl)
theorem dX6_reasonOf_18 : decode cX6_reasonOf 18 = .ok (.ireturn, 1) := dk_172 (dk_at dksX6_reasonOf_0 18 rfl rfl)
theorem dX6_reasonOf_19 : decode cX6_reasonOf 19 = .ok (.aload_n 0, 1) := dk_42 (dk_at dksX6_reasonOf_0 19 rfl rfl)
theorem dX6_reasonOf_20 : decode cX6_reasonOf 20 = .ok (.iload_n 1, 1) := dk_27 (dk_at dksX6_reasonOf_0 20 rfl rfl)
theorem dX6_reasonOf_21 : decode cX6_reasonOf 21 = .ok (.invokevirtual 66, 3) := dk_182 0 66 (dk_at dksX6_reasonOf_0 21 rfl rfl)
theorem dX6_reasonOf_24 : decode cX6_reasonOf 24 = .ok (.ifCond .ne 20, 3) := dk_154 0 20 (dk_at dksX6_reasonOf_1 0 rfl rfl)
theorem dX6_reasonOf_27 : decode cX6_reasonOf 27 = .ok (.aload_n 0, 1) := dk_42 (dk_at dksX6_reasonOf_1 3 rfl rfl)
theorem dX6_reasonOf_28 : decode cX6_reasonOf 28 = .ok (.iload_n 1, 1) := dk_27 (dk_at dksX6_reasonOf_1 4 rfl rfl)
theorem dX6_reasonOf_29 : decode cX6_reasonOf 29 = .ok (.bipush 7, 2) := dk_16 7 (dk_at dksX6_reasonOf_1 5 rfl rfl)
theorem dX6_reasonOf_31 : decode cX6_reasonOf 31 = .ok (.invokevirtual 62, 3) := dk_182 0 62 (dk_at dksX6_reasonOf_1 7 rfl rfl)
theorem dX6_reasonOf_34 : decode cX6_reasonOf 34 = .ok (.iload_n 2, 1) := dk_28 (dk_at dksX6_reasonOf_1 10 rfl rfl)
theorem dX6_reasonOf_35 : decode cX6_reasonOf 35 = .ok (.if_icmp .ne 7, 3) := dk_160 0 7 (dk_at dksX6_reasonOf_1 11 rfl rfl)
theorem dX6_reasonOf_38 : decode cX6_reasonOf 38 = .ok (.iconst 0, 1) := dk_3 (dk_at dksX6_reasonOf_1 14 rfl rfl)
theorem dX6_reasonOf_39 : decode cX6_reasonOf 39 = .ok (.goto 4, 3) := dk_167 0 4 (dk_at dksX6_reasonOf_1 15 rfl rfl)
theorem dX6_reasonOf_42 : decode cX6_reasonOf 42 = .ok (.iconst 2, 1) := dk_5 (dk_at dksX6_reasonOf_1 18 rfl rfl)
theorem dX6_reasonOf_43 : decode cX6_reasonOf 43 = .ok (.ireturn, 1) := dk_172 (dk_at dksX6_reasonOf_1 19 rfl rfl)
theorem dX6_reasonOf_44 : decode cX6_reasonOf 44 = .ok (.aload_n 0, 1) := dk_42 (dk_at dksX6_reasonOf_1 20 rfl rfl)
theorem dX6_reasonOf_45 : decode cX6_reasonOf 45 = .ok (.iload_n 1, 1) := dk_27 (dk_at dksX6_reasonOf_1 21 rfl rfl)
theorem dX6_reasonOf_46 : decode cX6_reasonOf 46 = .ok (.iconst 1, 1) := dk_4 (dk_at dksX6_reasonOf_1 22 rfl rfl)
theorem dX6_reasonOf_47 : decode cX6_reasonOf 47 = .ok (.invokevirtual 62, 3) := dk_182 0 62 (dk_at dksX6_reasonOf_2 0 rfl rfl)
theorem dX6_reasonOf_50 : decode cX6_reasonOf 50 = .ok (.ifCond .le 5, 3) := dk_158 0 5 (dk_at dksX6_reasonOf_2 3 rfl rfl)
theorem dX6_reasonOf_53 : decode cX6_reasonOf 53 = .ok (.iconst 3, 1) := dk_6 (dk_at dksX6_reasonOf_2 6 rfl rfl)
theorem dX6_reasonOf_54 : decode cX6_reasonOf 54 = .ok (.ireturn, 1) := dk_172 (dk_at dksX6_reasonOf_2 7 rfl rfl)
theorem dX6_reasonOf_55 : decode cX6_reasonOf 55 = .ok (.aload_n 0, 1) := dk_42 (dk_at dksX6_reasonOf_2 8 rfl rfl)
theorem dX6_reasonOf_56 : decode cX6_reasonOf 56 = .ok (.iload_n 1, 1) := dk_27 (dk_at dksX6_reasonOf_2 9 rfl rfl)
theorem dX6_reasonOf_57 : decode cX6_reasonOf 57 = .ok (.invokevirtual 104, 3) := dk_182 0 104 (dk_at dksX6_reasonOf_2 10 rfl rfl)
theorem dX6_reasonOf_60 : decode cX6_reasonOf 60 = .ok (.ifCond .ne 5, 3) := dk_154 0 5 (dk_at dksX6_reasonOf_2 13 rfl rfl)
theorem dX6_reasonOf_63 : decode cX6_reasonOf 63 = .ok (.iconst 4, 1) := dk_7 (dk_at dksX6_reasonOf_2 16 rfl rfl)
theorem dX6_reasonOf_64 : decode cX6_reasonOf 64 = .ok (.ireturn, 1) := dk_172 (dk_at dksX6_reasonOf_2 17 rfl rfl)
theorem dX6_reasonOf_65 : decode cX6_reasonOf 65 = .ok (.aload_n 0, 1) := dk_42 (dk_at dksX6_reasonOf_2 18 rfl rfl)
theorem dX6_reasonOf_66 : decode cX6_reasonOf 66 = .ok (.iload_n 2, 1) := dk_28 (dk_at dksX6_reasonOf_2 19 rfl rfl)
theorem dX6_reasonOf_67 : decode cX6_reasonOf 67 = .ok (.invokevirtual 107, 3) := dk_182 0 107 (dk_at dksX6_reasonOf_2 20 rfl rfl)
theorem dX6_reasonOf_70 : decode cX6_reasonOf 70 = .ok (.ifCond .eq 5, 3) := dk_153 0 5 (dk_at dksX6_reasonOf_3 0 rfl rfl)
theorem dX6_reasonOf_73 : decode cX6_reasonOf 73 = .ok (.iconst 5, 1) := dk_8 (dk_at dksX6_reasonOf_3 3 rfl rfl)
theorem dX6_reasonOf_74 : decode cX6_reasonOf 74 = .ok (.ireturn, 1) := dk_172 (dk_at dksX6_reasonOf_3 4 rfl rfl)
theorem dX6_reasonOf_75 : decode cX6_reasonOf 75 = .ok (.aload_n 0, 1) := dk_42 (dk_at dksX6_reasonOf_3 5 rfl rfl)
theorem dX6_reasonOf_76 : decode cX6_reasonOf 76 = .ok (.iload_n 1, 1) := dk_27 (dk_at dksX6_reasonOf_3 6 rfl rfl)
theorem dX6_reasonOf_77 : decode cX6_reasonOf 77 = .ok (.invokevirtual 94, 3) := dk_182 0 94 (dk_at dksX6_reasonOf_3 7 rfl rfl)
theorem dX6_reasonOf_80 : decode cX6_reasonOf 80 = .ok (.aload_n 0, 1) := dk_42 (dk_at dksX6_reasonOf_3 10 rfl rfl)
theorem dX6_reasonOf_81 : decode cX6_reasonOf 81 = .ok (.iload_n 2, 1) := dk_28 (dk_at dksX6_reasonOf_3 11 rfl rfl)
theorem dX6_reasonOf_82 : decode cX6_reasonOf 82 = .ok (.iconst 2, 1) := dk_5 (dk_at dksX6_reasonOf_3 12 rfl rfl)
theorem dX6_reasonOf_83 : decode cX6_reasonOf 83 = .ok (.invokevirtual 78, 3) := dk_182 0 78 (dk_at dksX6_reasonOf_3 13 rfl rfl)
theorem dX6_reasonOf_86 : decode cX6_reasonOf 86 = .ok (.if_icmp .le 8, 3) := dk_164 0 8 (dk_at dksX6_reasonOf_3 16 rfl rfl)
theorem dX6_reasonOf_89 : decode cX6_reasonOf 89 = .ok (.bipush 6, 2) := dk_16 6 (dk_at dksX6_reasonOf_3 19 rfl rfl)
theorem dX6_reasonOf_91 : decode cX6_reasonOf 91 = .ok (.goto 5, 3) := dk_167 0 5 (dk_at dksX6_reasonOf_3 21 rfl rfl)
theorem dX6_reasonOf_94 : decode cX6_reasonOf 94 = .ok (.bipush 7, 2) := dk_16 7 (dk_at dksX6_reasonOf_4 0 rfl rfl)
theorem dX6_reasonOf_96 : decode cX6_reasonOf 96 = .ok (.ireturn, 1) := dk_172 (dk_at dksX6_reasonOf_4 2 rfl rfl)
abbrev cX6_causeOf : ByteArray := prog_19_method_92_code
def yX6_causeOf : MethodName := ⟨RX6, "causeOf", "(I)I"⟩
def dkwX6_causeOf_5 : List UInt8 := [17, 4, 76, 42, 27, 182, 1, 95, 96, 172, 3, 172]
abbrev dktX6_causeOf_5 : List UInt8 := dkwX6_causeOf_5 ++ []
def dkwX6_causeOf_4 : List UInt8 := [172, 17, 2, 188, 42, 27, 3, 182, 0, 62, 96, 172, 17, 3, 132, 42, 27, 182, 0, 94, 96, 172]
abbrev dktX6_causeOf_4 : List UInt8 := dkwX6_causeOf_4 ++ dktX6_causeOf_5
def dkwX6_causeOf_3 : List UInt8 := [17, 1, 144, 42, 27, 4, 182, 0, 62, 96, 172, 17, 2, 88, 3, 42, 27, 182, 1, 92, 184, 0, 113, 96]
abbrev dktX6_causeOf_3 : List UInt8 := dkwX6_causeOf_3 ++ dktX6_causeOf_4
def dkwX6_causeOf_2 : List UInt8 := [16, 100, 42, 27, 5, 182, 0, 62, 96, 172, 17, 0, 200, 42, 27, 16, 7, 182, 0, 62, 96, 172]
abbrev dktX6_causeOf_2 : List UInt8 := dkwX6_causeOf_2 ++ dktX6_causeOf_3
def dkwX6_causeOf_1 : List UInt8 := [170, 0, 0, 0, 0, 0, 121, 0, 0, 0, 1, 0, 0, 0, 7, 0, 0, 0, 43, 0, 0, 0, 53, 0, 0, 0, 65, 0, 0, 0, 76, 0, 0, 0, 90, 0, 0, 0, 101, 0, 0, 0, 111]
abbrev dktX6_causeOf_1 : List UInt8 := dkwX6_causeOf_1 ++ dktX6_causeOf_2
def dkwX6_causeOf_0 : List UInt8 := [42, 27, 182, 1, 98]
abbrev dktX6_causeOf_0 : List UInt8 := dkwX6_causeOf_0 ++ dktX6_causeOf_1
theorem dksX6_causeOf_0 : cX6_causeOf.data.toList.drop 0 = dktX6_causeOf_0 := by decide +kernel
theorem dksX6_causeOf_1 : cX6_causeOf.data.toList.drop 5 = dktX6_causeOf_1 := dk_seg dksX6_causeOf_0 5 rfl rfl
theorem dksX6_causeOf_2 : cX6_causeOf.data.toList.drop 48 = dktX6_causeOf_2 := dk_seg dksX6_causeOf_1 43 rfl rfl
theorem dksX6_causeOf_3 : cX6_causeOf.data.toList.drop 70 = dktX6_causeOf_3 := dk_seg dksX6_causeOf_2 22 rfl rfl
theorem dksX6_causeOf_4 : cX6_causeOf.data.toList.drop 94 = dktX6_causeOf_4 := dk_seg dksX6_causeOf_3 24 rfl rfl
theorem dksX6_causeOf_5 : cX6_causeOf.data.toList.drop 116 = dktX6_causeOf_5 := dk_seg dksX6_causeOf_4 22 rfl rfl
theorem dX6_causeOf_0 : decode cX6_causeOf 0 = .ok (.aload_n 0, 1) := dk_42 (dk_at dksX6_causeOf_0 0 rfl rfl)
theorem dX6_causeOf_1 : decode cX6_causeOf 1 = .ok (.iload_n 1, 1) := dk_27 (dk_at dksX6_causeOf_0 1 rfl rfl)
theorem dX6_causeOf_2 : decode cX6_causeOf 2 = .ok (.invokevirtual 354, 3) := dk_182 1 98 (dk_at dksX6_causeOf_0 2 rfl rfl)
theorem dX6_causeOf_5 : decode cX6_causeOf 5 = .ok (.tableswitch 121 1 7 #[43, 53, 65, 76, 90, 101, 111], 43) := by decide +kernel
theorem dX6_causeOf_48 : decode cX6_causeOf 48 = .ok (.bipush 100, 2) := dk_16 100 (dk_at dksX6_causeOf_2 0 rfl rfl)
theorem dX6_causeOf_50 : decode cX6_causeOf 50 = .ok (.aload_n 0, 1) := dk_42 (dk_at dksX6_causeOf_2 2 rfl rfl)
theorem dX6_causeOf_51 : decode cX6_causeOf 51 = .ok (.iload_n 1, 1) := dk_27 (dk_at dksX6_causeOf_2 3 rfl rfl)
theorem dX6_causeOf_52 : decode cX6_causeOf 52 = .ok (.iconst 2, 1) := dk_5 (dk_at dksX6_causeOf_2 4 rfl rfl)
theorem dX6_causeOf_53 : decode cX6_causeOf 53 = .ok (.invokevirtual 62, 3) := dk_182 0 62 (dk_at dksX6_causeOf_2 5 rfl rfl)
theorem dX6_causeOf_56 : decode cX6_causeOf 56 = .ok (.iadd, 1) := dk_96 (dk_at dksX6_causeOf_2 8 rfl rfl)
theorem dX6_causeOf_57 : decode cX6_causeOf 57 = .ok (.ireturn, 1) := dk_172 (dk_at dksX6_causeOf_2 9 rfl rfl)
theorem dX6_causeOf_58 : decode cX6_causeOf 58 = .ok (.sipush 200, 3) := dk_17 0 200 (dk_at dksX6_causeOf_2 10 rfl rfl)
theorem dX6_causeOf_61 : decode cX6_causeOf 61 = .ok (.aload_n 0, 1) := dk_42 (dk_at dksX6_causeOf_2 13 rfl rfl)
theorem dX6_causeOf_62 : decode cX6_causeOf 62 = .ok (.iload_n 1, 1) := dk_27 (dk_at dksX6_causeOf_2 14 rfl rfl)
theorem dX6_causeOf_63 : decode cX6_causeOf 63 = .ok (.bipush 7, 2) := dk_16 7 (dk_at dksX6_causeOf_2 15 rfl rfl)
theorem dX6_causeOf_65 : decode cX6_causeOf 65 = .ok (.invokevirtual 62, 3) := dk_182 0 62 (dk_at dksX6_causeOf_2 17 rfl rfl)
theorem dX6_causeOf_68 : decode cX6_causeOf 68 = .ok (.iadd, 1) := dk_96 (dk_at dksX6_causeOf_2 20 rfl rfl)
theorem dX6_causeOf_69 : decode cX6_causeOf 69 = .ok (.ireturn, 1) := dk_172 (dk_at dksX6_causeOf_2 21 rfl rfl)
theorem dX6_causeOf_70 : decode cX6_causeOf 70 = .ok (.sipush 400, 3) := dk_17 1 144 (dk_at dksX6_causeOf_3 0 rfl rfl)
theorem dX6_causeOf_73 : decode cX6_causeOf 73 = .ok (.aload_n 0, 1) := dk_42 (dk_at dksX6_causeOf_3 3 rfl rfl)
theorem dX6_causeOf_74 : decode cX6_causeOf 74 = .ok (.iload_n 1, 1) := dk_27 (dk_at dksX6_causeOf_3 4 rfl rfl)
theorem dX6_causeOf_75 : decode cX6_causeOf 75 = .ok (.iconst 1, 1) := dk_4 (dk_at dksX6_causeOf_3 5 rfl rfl)
theorem dX6_causeOf_76 : decode cX6_causeOf 76 = .ok (.invokevirtual 62, 3) := dk_182 0 62 (dk_at dksX6_causeOf_3 6 rfl rfl)
theorem dX6_causeOf_79 : decode cX6_causeOf 79 = .ok (.iadd, 1) := dk_96 (dk_at dksX6_causeOf_3 9 rfl rfl)
theorem dX6_causeOf_80 : decode cX6_causeOf 80 = .ok (.ireturn, 1) := dk_172 (dk_at dksX6_causeOf_3 10 rfl rfl)
theorem dX6_causeOf_81 : decode cX6_causeOf 81 = .ok (.sipush 600, 3) := dk_17 2 88 (dk_at dksX6_causeOf_3 11 rfl rfl)
theorem dX6_causeOf_84 : decode cX6_causeOf 84 = .ok (.iconst 0, 1) := dk_3 (dk_at dksX6_causeOf_3 14 rfl rfl)
theorem dX6_causeOf_85 : decode cX6_causeOf 85 = .ok (.aload_n 0, 1) := dk_42 (dk_at dksX6_causeOf_3 15 rfl rfl)
theorem dX6_causeOf_86 : decode cX6_causeOf 86 = .ok (.iload_n 1, 1) := dk_27 (dk_at dksX6_causeOf_3 16 rfl rfl)
theorem dX6_causeOf_87 : decode cX6_causeOf 87 = .ok (.invokevirtual 348, 3) := dk_182 1 92 (dk_at dksX6_causeOf_3 17 rfl rfl)
theorem dX6_causeOf_90 : decode cX6_causeOf 90 = .ok (.invokestatic 113, 3) := dk_184 0 113 (dk_at dksX6_causeOf_3 20 rfl rfl)
theorem dX6_causeOf_93 : decode cX6_causeOf 93 = .ok (.iadd, 1) := dk_96 (dk_at dksX6_causeOf_3 23 rfl rfl)
theorem dX6_causeOf_94 : decode cX6_causeOf 94 = .ok (.ireturn, 1) := dk_172 (dk_at dksX6_causeOf_4 0 rfl rfl)
theorem dX6_causeOf_95 : decode cX6_causeOf 95 = .ok (.sipush 700, 3) := dk_17 2 188 (dk_at dksX6_causeOf_4 1 rfl rfl)
theorem dX6_causeOf_98 : decode cX6_causeOf 98 = .ok (.aload_n 0, 1) := dk_42 (dk_at dksX6_causeOf_4 4 rfl rfl)
theorem dX6_causeOf_99 : decode cX6_causeOf 99 = .ok (.iload_n 1, 1) := dk_27 (dk_at dksX6_causeOf_4 5 rfl rfl)
theorem dX6_causeOf_100 : decode cX6_causeOf 100 = .ok (.iconst 0, 1) := dk_3 (dk_at dksX6_causeOf_4 6 rfl rfl)
theorem dX6_causeOf_101 : decode cX6_causeOf 101 = .ok (.invokevirtual 62, 3) := dk_182 0 62 (dk_at dksX6_causeOf_4 7 rfl rfl)
theorem dX6_causeOf_104 : decode cX6_causeOf 104 = .ok (.iadd, 1) := dk_96 (dk_at dksX6_causeOf_4 10 rfl rfl)
theorem dX6_causeOf_105 : decode cX6_causeOf 105 = .ok (.ireturn, 1) := dk_172 (dk_at dksX6_causeOf_4 11 rfl rfl)
theorem dX6_causeOf_106 : decode cX6_causeOf 106 = .ok (.sipush 900, 3) := dk_17 3 132 (dk_at dksX6_causeOf_4 12 rfl rfl)
theorem dX6_causeOf_109 : decode cX6_causeOf 109 = .ok (.aload_n 0, 1) := dk_42 (dk_at dksX6_causeOf_4 15 rfl rfl)
theorem dX6_causeOf_110 : decode cX6_causeOf 110 = .ok (.iload_n 1, 1) := dk_27 (dk_at dksX6_causeOf_4 16 rfl rfl)
theorem dX6_causeOf_111 : decode cX6_causeOf 111 = .ok (.invokevirtual 94, 3) := dk_182 0 94 (dk_at dksX6_causeOf_4 17 rfl rfl)
theorem dX6_causeOf_114 : decode cX6_causeOf 114 = .ok (.iadd, 1) := dk_96 (dk_at dksX6_causeOf_4 20 rfl rfl)
theorem dX6_causeOf_115 : decode cX6_causeOf 115 = .ok (.ireturn, 1) := dk_172 (dk_at dksX6_causeOf_4 21 rfl rfl)
theorem dX6_causeOf_116 : decode cX6_causeOf 116 = .ok (.sipush 1100, 3) := dk_17 4 76 (dk_at dksX6_causeOf_5 0 rfl rfl)
theorem dX6_causeOf_119 : decode cX6_causeOf 119 = .ok (.aload_n 0, 1) := dk_42 (dk_at dksX6_causeOf_5 3 rfl rfl)
theorem dX6_causeOf_120 : decode cX6_causeOf 120 = .ok (.iload_n 1, 1) := dk_27 (dk_at dksX6_causeOf_5 4 rfl rfl)
theorem dX6_causeOf_121 : decode cX6_causeOf 121 = .ok (.invokevirtual 351, 3) := dk_182 1 95 (dk_at dksX6_causeOf_5 5 rfl rfl)
theorem dX6_causeOf_124 : decode cX6_causeOf 124 = .ok (.iadd, 1) := dk_96 (dk_at dksX6_causeOf_5 8 rfl rfl)
theorem dX6_causeOf_125 : decode cX6_causeOf 125 = .ok (.ireturn, 1) := dk_172 (dk_at dksX6_causeOf_5 9 rfl rfl)
theorem dX6_causeOf_126 : decode cX6_causeOf 126 = .ok (.iconst 0, 1) := dk_3 (dk_at dksX6_causeOf_5 10 rfl rfl)
theorem dX6_causeOf_127 : decode cX6_causeOf 127 = .ok (.ireturn, 1) := dk_172 (dk_at dksX6_causeOf_5 11 rfl rfl)
abbrev cX6_deeperOf : ByteArray := prog_19_method_93_code
def yX6_deeperOf : MethodName := ⟨RX6, "deeperOf", "(I)I"⟩
def dkwX6_deeperOf_3 : List UInt8 := [28, 16, 6, 182, 0, 78, 96, 172, 17, 3, 232, 42, 28, 5, 182, 0, 78, 96, 172, 3, 172]
abbrev dktX6_deeperOf_3 : List UInt8 := dkwX6_deeperOf_3 ++ []
def dkwX6_deeperOf_2 : List UInt8 := [17, 1, 44, 28, 96, 172, 17, 1, 244, 3, 42, 27, 182, 1, 92, 184, 0, 113, 96, 172, 17, 3, 32, 42]
abbrev dktX6_deeperOf_2 : List UInt8 := dkwX6_deeperOf_2 ++ dktX6_deeperOf_3
def dkwX6_deeperOf_1 : List UInt8 := [170, 0, 0, 0, 0, 0, 0, 79, 0, 0, 0, 2, 0, 0, 0, 6, 0, 0, 0, 36, 0, 0, 0, 42, 0, 0, 0, 79, 0, 0, 0, 56, 0, 0, 0, 68]
abbrev dktX6_deeperOf_1 : List UInt8 := dkwX6_deeperOf_1 ++ dktX6_deeperOf_2
def dkwX6_deeperOf_0 : List UInt8 := [42, 27, 3, 182, 0, 62, 61, 42, 27, 182, 1, 98]
abbrev dktX6_deeperOf_0 : List UInt8 := dkwX6_deeperOf_0 ++ dktX6_deeperOf_1
theorem dksX6_deeperOf_0 : cX6_deeperOf.data.toList.drop 0 = dktX6_deeperOf_0 := by decide +kernel
theorem dksX6_deeperOf_1 : cX6_deeperOf.data.toList.drop 12 = dktX6_deeperOf_1 := dk_seg dksX6_deeperOf_0 12 rfl rfl
theorem dksX6_deeperOf_2 : cX6_deeperOf.data.toList.drop 48 = dktX6_deeperOf_2 := dk_seg dksX6_deeperOf_1 36 rfl rfl
theorem dksX6_deeperOf_3 : cX6_deeperOf.data.toList.drop 72 = dktX6_deeperOf_3 := dk_seg dksX6_deeperOf_2 24 rfl rfl
theorem dX6_deeperOf_0 : decode cX6_deeperOf 0 = .ok (.aload_n 0, 1) := dk_42 (dk_at dksX6_deeperOf_0 0 rfl rfl)
theorem dX6_deeperOf_1 : decode cX6_deeperOf 1 = .ok (.iload_n 1, 1) := dk_27 (dk_at dksX6_deeperOf_0 1 rfl rfl)
theorem dX6_deeperOf_2 : decode cX6_deeperOf 2 = .ok (.iconst 0, 1) := dk_3 (dk_at dksX6_deeperOf_0 2 rfl rfl)
theorem dX6_deeperOf_3 : decode cX6_deeperOf 3 = .ok (.invokevirtual 62, 3) := dk_182 0 62 (dk_at dksX6_deeperOf_0 3 rfl rfl)
theorem dX6_deeperOf_6 : decode cX6_deeperOf 6 = .ok (.istore_n 2, 1) := dk_61 (dk_at dksX6_deeperOf_0 6 rfl rfl)
theorem dX6_deeperOf_7 : decode cX6_deeperOf 7 = .ok (.aload_n 0, 1) := dk_42 (dk_at dksX6_deeperOf_0 7 rfl rfl)
theorem dX6_deeperOf_8 : decode cX6_deeperOf 8 = .ok (.iload_n 1, 1) := dk_27 (dk_at dksX6_deeperOf_0 8 rfl rfl)
theorem dX6_deeperOf_9 : decode cX6_deeperOf 9 = .ok (.invokevirtual 354, 3) := dk_182 1 98 (dk_at dksX6_deeperOf_0 9 rfl rfl)
theorem dX6_deeperOf_12 : decode cX6_deeperOf 12 = .ok (.tableswitch 79 2 6 #[36, 42, 79, 56, 68], 36) := by decide +kernel
theorem dX6_deeperOf_48 : decode cX6_deeperOf 48 = .ok (.sipush 300, 3) := dk_17 1 44 (dk_at dksX6_deeperOf_2 0 rfl rfl)
theorem dX6_deeperOf_51 : decode cX6_deeperOf 51 = .ok (.iload_n 2, 1) := dk_28 (dk_at dksX6_deeperOf_2 3 rfl rfl)
theorem dX6_deeperOf_52 : decode cX6_deeperOf 52 = .ok (.iadd, 1) := dk_96 (dk_at dksX6_deeperOf_2 4 rfl rfl)
theorem dX6_deeperOf_53 : decode cX6_deeperOf 53 = .ok (.ireturn, 1) := dk_172 (dk_at dksX6_deeperOf_2 5 rfl rfl)
theorem dX6_deeperOf_54 : decode cX6_deeperOf 54 = .ok (.sipush 500, 3) := dk_17 1 244 (dk_at dksX6_deeperOf_2 6 rfl rfl)
theorem dX6_deeperOf_57 : decode cX6_deeperOf 57 = .ok (.iconst 0, 1) := dk_3 (dk_at dksX6_deeperOf_2 9 rfl rfl)
theorem dX6_deeperOf_58 : decode cX6_deeperOf 58 = .ok (.aload_n 0, 1) := dk_42 (dk_at dksX6_deeperOf_2 10 rfl rfl)
theorem dX6_deeperOf_59 : decode cX6_deeperOf 59 = .ok (.iload_n 1, 1) := dk_27 (dk_at dksX6_deeperOf_2 11 rfl rfl)
theorem dX6_deeperOf_60 : decode cX6_deeperOf 60 = .ok (.invokevirtual 348, 3) := dk_182 1 92 (dk_at dksX6_deeperOf_2 12 rfl rfl)
theorem dX6_deeperOf_63 : decode cX6_deeperOf 63 = .ok (.invokestatic 113, 3) := dk_184 0 113 (dk_at dksX6_deeperOf_2 15 rfl rfl)
theorem dX6_deeperOf_66 : decode cX6_deeperOf 66 = .ok (.iadd, 1) := dk_96 (dk_at dksX6_deeperOf_2 18 rfl rfl)
theorem dX6_deeperOf_67 : decode cX6_deeperOf 67 = .ok (.ireturn, 1) := dk_172 (dk_at dksX6_deeperOf_2 19 rfl rfl)
theorem dX6_deeperOf_68 : decode cX6_deeperOf 68 = .ok (.sipush 800, 3) := dk_17 3 32 (dk_at dksX6_deeperOf_2 20 rfl rfl)
theorem dX6_deeperOf_71 : decode cX6_deeperOf 71 = .ok (.aload_n 0, 1) := dk_42 (dk_at dksX6_deeperOf_2 23 rfl rfl)
theorem dX6_deeperOf_72 : decode cX6_deeperOf 72 = .ok (.iload_n 2, 1) := dk_28 (dk_at dksX6_deeperOf_3 0 rfl rfl)
theorem dX6_deeperOf_73 : decode cX6_deeperOf 73 = .ok (.bipush 6, 2) := dk_16 6 (dk_at dksX6_deeperOf_3 1 rfl rfl)
theorem dX6_deeperOf_75 : decode cX6_deeperOf 75 = .ok (.invokevirtual 78, 3) := dk_182 0 78 (dk_at dksX6_deeperOf_3 3 rfl rfl)
theorem dX6_deeperOf_78 : decode cX6_deeperOf 78 = .ok (.iadd, 1) := dk_96 (dk_at dksX6_deeperOf_3 6 rfl rfl)
theorem dX6_deeperOf_79 : decode cX6_deeperOf 79 = .ok (.ireturn, 1) := dk_172 (dk_at dksX6_deeperOf_3 7 rfl rfl)
theorem dX6_deeperOf_80 : decode cX6_deeperOf 80 = .ok (.sipush 1000, 3) := dk_17 3 232 (dk_at dksX6_deeperOf_3 8 rfl rfl)
theorem dX6_deeperOf_83 : decode cX6_deeperOf 83 = .ok (.aload_n 0, 1) := dk_42 (dk_at dksX6_deeperOf_3 11 rfl rfl)
theorem dX6_deeperOf_84 : decode cX6_deeperOf 84 = .ok (.iload_n 2, 1) := dk_28 (dk_at dksX6_deeperOf_3 12 rfl rfl)
theorem dX6_deeperOf_85 : decode cX6_deeperOf 85 = .ok (.iconst 2, 1) := dk_5 (dk_at dksX6_deeperOf_3 13 rfl rfl)
theorem dX6_deeperOf_86 : decode cX6_deeperOf 86 = .ok (.invokevirtual 78, 3) := dk_182 0 78 (dk_at dksX6_deeperOf_3 14 rfl rfl)
theorem dX6_deeperOf_89 : decode cX6_deeperOf 89 = .ok (.iadd, 1) := dk_96 (dk_at dksX6_deeperOf_3 17 rfl rfl)
theorem dX6_deeperOf_90 : decode cX6_deeperOf 90 = .ok (.ireturn, 1) := dk_172 (dk_at dksX6_deeperOf_3 18 rfl rfl)
theorem dX6_deeperOf_91 : decode cX6_deeperOf 91 = .ok (.iconst 0, 1) := dk_3 (dk_at dksX6_deeperOf_3 19 rfl rfl)
theorem dX6_deeperOf_92 : decode cX6_deeperOf 92 = .ok (.ireturn, 1) := dk_172 (dk_at dksX6_deeperOf_3 20 rfl rfl)
abbrev cX6_whyNoPut : ByteArray := prog_19_method_95_code
def yX6_whyNoPut : MethodName := ⟨RX6, "whyNoPut", "()I"⟩
def dkwX6_whyNoPut_0 : List UInt8 := [42, 3, 181, 0, 55, 42, 182, 1, 25, 172]
abbrev dktX6_whyNoPut_0 : List UInt8 := dkwX6_whyNoPut_0 ++ []
theorem dksX6_whyNoPut_0 : cX6_whyNoPut.data.toList.drop 0 = dktX6_whyNoPut_0 := by decide +kernel
theorem dX6_whyNoPut_0 : decode cX6_whyNoPut 0 = .ok (.aload_n 0, 1) := dk_42 (dk_at dksX6_whyNoPut_0 0 rfl rfl)
theorem dX6_whyNoPut_1 : decode cX6_whyNoPut 1 = .ok (.iconst 0, 1) := dk_3 (dk_at dksX6_whyNoPut_0 1 rfl rfl)
theorem dX6_whyNoPut_2 : decode cX6_whyNoPut 2 = .ok (.putfield 55, 3) := dk_181 0 55 (dk_at dksX6_whyNoPut_0 2 rfl rfl)
theorem dX6_whyNoPut_5 : decode cX6_whyNoPut 5 = .ok (.aload_n 0, 1) := dk_42 (dk_at dksX6_whyNoPut_0 5 rfl rfl)
theorem dX6_whyNoPut_6 : decode cX6_whyNoPut 6 = .ok (.invokevirtual 281, 3) := dk_182 1 25 (dk_at dksX6_whyNoPut_0 6 rfl rfl)
theorem dX6_whyNoPut_9 : decode cX6_whyNoPut 9 = .ok (.ireturn, 1) := dk_172 (dk_at dksX6_whyNoPut_0 9 rfl rfl)
abbrev cX6_whyNoSlip : ByteArray := prog_19_method_96_code
def yX6_whyNoSlip : MethodName := ⟨RX6, "whyNoSlip", "(I)I"⟩
def dkwX6_whyNoSlip_0 : List UInt8 := [42, 3, 181, 0, 55, 42, 27, 182, 1, 74, 153, 0, 7, 3, 167, 0, 8, 42, 27, 182, 1, 34, 172]
abbrev dktX6_whyNoSlip_0 : List UInt8 := dkwX6_whyNoSlip_0 ++ []
theorem dksX6_whyNoSlip_0 : cX6_whyNoSlip.data.toList.drop 0 = dktX6_whyNoSlip_0 := by decide +kernel
theorem dX6_whyNoSlip_0 : decode cX6_whyNoSlip 0 = .ok (.aload_n 0, 1) := dk_42 (dk_at dksX6_whyNoSlip_0 0 rfl rfl)
theorem dX6_whyNoSlip_1 : decode cX6_whyNoSlip 1 = .ok (.iconst 0, 1) := dk_3 (dk_at dksX6_whyNoSlip_0 1 rfl rfl)
theorem dX6_whyNoSlip_2 : decode cX6_whyNoSlip 2 = .ok (.putfield 55, 3) := dk_181 0 55 (dk_at dksX6_whyNoSlip_0 2 rfl rfl)
theorem dX6_whyNoSlip_5 : decode cX6_whyNoSlip 5 = .ok (.aload_n 0, 1) := dk_42 (dk_at dksX6_whyNoSlip_0 5 rfl rfl)
theorem dX6_whyNoSlip_6 : decode cX6_whyNoSlip 6 = .ok (.iload_n 1, 1) := dk_27 (dk_at dksX6_whyNoSlip_0 6 rfl rfl)
theorem dX6_whyNoSlip_7 : decode cX6_whyNoSlip 7 = .ok (.invokevirtual 330, 3) := dk_182 1 74 (dk_at dksX6_whyNoSlip_0 7 rfl rfl)
theorem dX6_whyNoSlip_10 : decode cX6_whyNoSlip 10 = .ok (.ifCond .eq 7, 3) := dk_153 0 7 (dk_at dksX6_whyNoSlip_0 10 rfl rfl)
theorem dX6_whyNoSlip_13 : decode cX6_whyNoSlip 13 = .ok (.iconst 0, 1) := dk_3 (dk_at dksX6_whyNoSlip_0 13 rfl rfl)
theorem dX6_whyNoSlip_14 : decode cX6_whyNoSlip 14 = .ok (.goto 8, 3) := dk_167 0 8 (dk_at dksX6_whyNoSlip_0 14 rfl rfl)
theorem dX6_whyNoSlip_17 : decode cX6_whyNoSlip 17 = .ok (.aload_n 0, 1) := dk_42 (dk_at dksX6_whyNoSlip_0 17 rfl rfl)
theorem dX6_whyNoSlip_18 : decode cX6_whyNoSlip 18 = .ok (.iload_n 1, 1) := dk_27 (dk_at dksX6_whyNoSlip_0 18 rfl rfl)
theorem dX6_whyNoSlip_19 : decode cX6_whyNoSlip 19 = .ok (.invokevirtual 290, 3) := dk_182 1 34 (dk_at dksX6_whyNoSlip_0 19 rfl rfl)
theorem dX6_whyNoSlip_22 : decode cX6_whyNoSlip 22 = .ok (.ireturn, 1) := dk_172 (dk_at dksX6_whyNoSlip_0 22 rfl rfl)
abbrev cX6_leavesIn : ByteArray := prog_19_method_97_code
def yX6_leavesIn : MethodName := ⟨RX6, "leavesIn", "(I)I"⟩
def dkwX6_leavesIn_2 : List UInt8 := [42, 42, 27, 182, 0, 66, 153, 0, 7, 2, 167, 0, 4, 28, 182, 1, 110, 172]
abbrev dktX6_leavesIn_2 : List UInt8 := dkwX6_leavesIn_2 ++ []
def dkwX6_leavesIn_1 : List UInt8 := [17, 1, 244, 162, 0, 21, 42, 27, 182, 0, 66, 153, 0, 13, 42, 182, 0, 136, 132, 2, 1, 167, 255, 234]
abbrev dktX6_leavesIn_1 : List UInt8 := dkwX6_leavesIn_1 ++ dktX6_leavesIn_2
def dkwX6_leavesIn_0 : List UInt8 := [42, 3, 181, 0, 55, 42, 27, 182, 1, 74, 153, 0, 5, 3, 172, 42, 182, 1, 107, 3, 61, 28]
abbrev dktX6_leavesIn_0 : List UInt8 := dkwX6_leavesIn_0 ++ dktX6_leavesIn_1
theorem dksX6_leavesIn_0 : cX6_leavesIn.data.toList.drop 0 = dktX6_leavesIn_0 := by decide +kernel
theorem dksX6_leavesIn_1 : cX6_leavesIn.data.toList.drop 22 = dktX6_leavesIn_1 := dk_seg dksX6_leavesIn_0 22 rfl rfl
theorem dksX6_leavesIn_2 : cX6_leavesIn.data.toList.drop 46 = dktX6_leavesIn_2 := dk_seg dksX6_leavesIn_1 24 rfl rfl
theorem dX6_leavesIn_0 : decode cX6_leavesIn 0 = .ok (.aload_n 0, 1) := dk_42 (dk_at dksX6_leavesIn_0 0 rfl rfl)
theorem dX6_leavesIn_1 : decode cX6_leavesIn 1 = .ok (.iconst 0, 1) := dk_3 (dk_at dksX6_leavesIn_0 1 rfl rfl)
theorem dX6_leavesIn_2 : decode cX6_leavesIn 2 = .ok (.putfield 55, 3) := dk_181 0 55 (dk_at dksX6_leavesIn_0 2 rfl rfl)
theorem dX6_leavesIn_5 : decode cX6_leavesIn 5 = .ok (.aload_n 0, 1) := dk_42 (dk_at dksX6_leavesIn_0 5 rfl rfl)
theorem dX6_leavesIn_6 : decode cX6_leavesIn 6 = .ok (.iload_n 1, 1) := dk_27 (dk_at dksX6_leavesIn_0 6 rfl rfl)
theorem dX6_leavesIn_7 : decode cX6_leavesIn 7 = .ok (.invokevirtual 330, 3) := dk_182 1 74 (dk_at dksX6_leavesIn_0 7 rfl rfl)
theorem dX6_leavesIn_10 : decode cX6_leavesIn 10 = .ok (.ifCond .eq 5, 3) := dk_153 0 5 (dk_at dksX6_leavesIn_0 10 rfl rfl)
theorem dX6_leavesIn_13 : decode cX6_leavesIn 13 = .ok (.iconst 0, 1) := dk_3 (dk_at dksX6_leavesIn_0 13 rfl rfl)
theorem dX6_leavesIn_14 : decode cX6_leavesIn 14 = .ok (.ireturn, 1) := dk_172 (dk_at dksX6_leavesIn_0 14 rfl rfl)
theorem dX6_leavesIn_15 : decode cX6_leavesIn 15 = .ok (.aload_n 0, 1) := dk_42 (dk_at dksX6_leavesIn_0 15 rfl rfl)
theorem dX6_leavesIn_16 : decode cX6_leavesIn 16 = .ok (.invokevirtual 363, 3) := dk_182 1 107 (dk_at dksX6_leavesIn_0 16 rfl rfl)
theorem dX6_leavesIn_19 : decode cX6_leavesIn 19 = .ok (.iconst 0, 1) := dk_3 (dk_at dksX6_leavesIn_0 19 rfl rfl)
theorem dX6_leavesIn_20 : decode cX6_leavesIn 20 = .ok (.istore_n 2, 1) := dk_61 (dk_at dksX6_leavesIn_0 20 rfl rfl)
theorem dX6_leavesIn_21 : decode cX6_leavesIn 21 = .ok (.iload_n 2, 1) := dk_28 (dk_at dksX6_leavesIn_0 21 rfl rfl)
theorem dX6_leavesIn_22 : decode cX6_leavesIn 22 = .ok (.sipush 500, 3) := dk_17 1 244 (dk_at dksX6_leavesIn_1 0 rfl rfl)
theorem dX6_leavesIn_25 : decode cX6_leavesIn 25 = .ok (.if_icmp .ge 21, 3) := dk_162 0 21 (dk_at dksX6_leavesIn_1 3 rfl rfl)
theorem dX6_leavesIn_28 : decode cX6_leavesIn 28 = .ok (.aload_n 0, 1) := dk_42 (dk_at dksX6_leavesIn_1 6 rfl rfl)
theorem dX6_leavesIn_29 : decode cX6_leavesIn 29 = .ok (.iload_n 1, 1) := dk_27 (dk_at dksX6_leavesIn_1 7 rfl rfl)
theorem dX6_leavesIn_30 : decode cX6_leavesIn 30 = .ok (.invokevirtual 66, 3) := dk_182 0 66 (dk_at dksX6_leavesIn_1 8 rfl rfl)
theorem dX6_leavesIn_33 : decode cX6_leavesIn 33 = .ok (.ifCond .eq 13, 3) := dk_153 0 13 (dk_at dksX6_leavesIn_1 11 rfl rfl)
theorem dX6_leavesIn_36 : decode cX6_leavesIn 36 = .ok (.aload_n 0, 1) := dk_42 (dk_at dksX6_leavesIn_1 14 rfl rfl)
theorem dX6_leavesIn_37 : decode cX6_leavesIn 37 = .ok (.invokevirtual 136, 3) := dk_182 0 136 (dk_at dksX6_leavesIn_1 15 rfl rfl)
theorem dX6_leavesIn_40 : decode cX6_leavesIn 40 = .ok (.iinc 2 1, 3) := dk_132 2 1 (dk_at dksX6_leavesIn_1 18 rfl rfl)
theorem dX6_leavesIn_43 : decode cX6_leavesIn 43 = .ok (.goto (-22), 3) := dk_167 255 234 (dk_at dksX6_leavesIn_1 21 rfl rfl)
theorem dX6_leavesIn_46 : decode cX6_leavesIn 46 = .ok (.aload_n 0, 1) := dk_42 (dk_at dksX6_leavesIn_2 0 rfl rfl)
theorem dX6_leavesIn_47 : decode cX6_leavesIn 47 = .ok (.aload_n 0, 1) := dk_42 (dk_at dksX6_leavesIn_2 1 rfl rfl)
theorem dX6_leavesIn_48 : decode cX6_leavesIn 48 = .ok (.iload_n 1, 1) := dk_27 (dk_at dksX6_leavesIn_2 2 rfl rfl)
theorem dX6_leavesIn_49 : decode cX6_leavesIn 49 = .ok (.invokevirtual 66, 3) := dk_182 0 66 (dk_at dksX6_leavesIn_2 3 rfl rfl)
theorem dX6_leavesIn_52 : decode cX6_leavesIn 52 = .ok (.ifCond .eq 7, 3) := dk_153 0 7 (dk_at dksX6_leavesIn_2 6 rfl rfl)
theorem dX6_leavesIn_55 : decode cX6_leavesIn 55 = .ok (.iconst (-1), 1) := dk_2 (dk_at dksX6_leavesIn_2 9 rfl rfl)
theorem dX6_leavesIn_56 : decode cX6_leavesIn 56 = .ok (.goto 4, 3) := dk_167 0 4 (dk_at dksX6_leavesIn_2 10 rfl rfl)
theorem dX6_leavesIn_59 : decode cX6_leavesIn 59 = .ok (.iload_n 2, 1) := dk_28 (dk_at dksX6_leavesIn_2 13 rfl rfl)
theorem dX6_leavesIn_60 : decode cX6_leavesIn 60 = .ok (.invokevirtual 366, 3) := dk_182 1 110 (dk_at dksX6_leavesIn_2 14 rfl rfl)
theorem dX6_leavesIn_63 : decode cX6_leavesIn 63 = .ok (.ireturn, 1) := dk_172 (dk_at dksX6_leavesIn_2 17 rfl rfl)
abbrev cX6_goesAside : ByteArray := prog_19_method_40_code
def yX6_goesAside : MethodName := ⟨RX6, "goesAside", "()V"⟩
def dkwX6_goesAside_0 : List UInt8 := [42, 180, 0, 7, 3, 42, 180, 0, 16, 3, 184, 0, 142, 177]
abbrev dktX6_goesAside_0 : List UInt8 := dkwX6_goesAside_0 ++ []
theorem dksX6_goesAside_0 : cX6_goesAside.data.toList.drop 0 = dktX6_goesAside_0 := by decide +kernel
theorem dX6_goesAside_0 : decode cX6_goesAside 0 = .ok (.aload_n 0, 1) := dk_42 (dk_at dksX6_goesAside_0 0 rfl rfl)
theorem dX6_goesAside_1 : decode cX6_goesAside 1 = .ok (.getfield 7, 3) := dk_180 0 7 (dk_at dksX6_goesAside_0 1 rfl rfl)
theorem dX6_goesAside_4 : decode cX6_goesAside 4 = .ok (.iconst 0, 1) := dk_3 (dk_at dksX6_goesAside_0 4 rfl rfl)
theorem dX6_goesAside_5 : decode cX6_goesAside 5 = .ok (.aload_n 0, 1) := dk_42 (dk_at dksX6_goesAside_0 5 rfl rfl)
theorem dX6_goesAside_6 : decode cX6_goesAside 6 = .ok (.getfield 16, 3) := dk_180 0 16 (dk_at dksX6_goesAside_0 6 rfl rfl)
theorem dX6_goesAside_9 : decode cX6_goesAside 9 = .ok (.iconst 0, 1) := dk_3 (dk_at dksX6_goesAside_0 9 rfl rfl)
theorem dX6_goesAside_10 : decode cX6_goesAside 10 = .ok (.invokestatic 142, 3) := dk_184 0 142 (dk_at dksX6_goesAside_0 10 rfl rfl)
theorem dX6_goesAside_13 : decode cX6_goesAside 13 = .ok (.return_, 1) := dk_177 (dk_at dksX6_goesAside_0 13 rfl rfl)
abbrev cX6_goesBack : ByteArray := prog_19_method_41_code
def yX6_goesBack : MethodName := ⟨RX6, "goesBack", "(I)I"⟩
def dkwX6_goesBack_0 : List UInt8 := [42, 180, 0, 16, 3, 42, 180, 0, 7, 3, 184, 0, 142, 27, 172]
abbrev dktX6_goesBack_0 : List UInt8 := dkwX6_goesBack_0 ++ []
theorem dksX6_goesBack_0 : cX6_goesBack.data.toList.drop 0 = dktX6_goesBack_0 := by decide +kernel
theorem dX6_goesBack_0 : decode cX6_goesBack 0 = .ok (.aload_n 0, 1) := dk_42 (dk_at dksX6_goesBack_0 0 rfl rfl)
theorem dX6_goesBack_1 : decode cX6_goesBack 1 = .ok (.getfield 16, 3) := dk_180 0 16 (dk_at dksX6_goesBack_0 1 rfl rfl)
theorem dX6_goesBack_4 : decode cX6_goesBack 4 = .ok (.iconst 0, 1) := dk_3 (dk_at dksX6_goesBack_0 4 rfl rfl)
theorem dX6_goesBack_5 : decode cX6_goesBack 5 = .ok (.aload_n 0, 1) := dk_42 (dk_at dksX6_goesBack_0 5 rfl rfl)
theorem dX6_goesBack_6 : decode cX6_goesBack 6 = .ok (.getfield 7, 3) := dk_180 0 7 (dk_at dksX6_goesBack_0 6 rfl rfl)
theorem dX6_goesBack_9 : decode cX6_goesBack 9 = .ok (.iconst 0, 1) := dk_3 (dk_at dksX6_goesBack_0 9 rfl rfl)
theorem dX6_goesBack_10 : decode cX6_goesBack 10 = .ok (.invokestatic 142, 3) := dk_184 0 142 (dk_at dksX6_goesBack_0 10 rfl rfl)
theorem dX6_goesBack_13 : decode cX6_goesBack 13 = .ok (.iload_n 1, 1) := dk_27 (dk_at dksX6_goesBack_0 13 rfl rfl)
theorem dX6_goesBack_14 : decode cX6_goesBack 14 = .ok (.ireturn, 1) := dk_172 (dk_at dksX6_goesBack_0 14 rfl rfl)
abbrev cX6_endsAs : ByteArray := prog_19_method_99_code
def yX6_endsAs : MethodName := ⟨RX6, "endsAs", "(II)I"⟩
def dkwX6_endsAs_1 : List UInt8 := [42, 182, 1, 107, 42, 28, 182, 1, 31, 62, 42, 42, 27, 182, 1, 116, 182, 1, 110, 172]
abbrev dktX6_endsAs_1 : List UInt8 := dkwX6_endsAs_1 ++ []
def dkwX6_endsAs_0 : List UInt8 := [42, 3, 181, 0, 55, 42, 27, 182, 1, 74, 154, 0, 12, 42, 28, 5, 182, 1, 113, 153, 0, 5, 3, 172]
abbrev dktX6_endsAs_0 : List UInt8 := dkwX6_endsAs_0 ++ dktX6_endsAs_1
theorem dksX6_endsAs_0 : cX6_endsAs.data.toList.drop 0 = dktX6_endsAs_0 := by decide +kernel
theorem dksX6_endsAs_1 : cX6_endsAs.data.toList.drop 24 = dktX6_endsAs_1 := dk_seg dksX6_endsAs_0 24 rfl rfl
theorem dX6_endsAs_0 : decode cX6_endsAs 0 = .ok (.aload_n 0, 1) := dk_42 (dk_at dksX6_endsAs_0 0 rfl rfl)
theorem dX6_endsAs_1 : decode cX6_endsAs 1 = .ok (.iconst 0, 1) := dk_3 (dk_at dksX6_endsAs_0 1 rfl rfl)
theorem dX6_endsAs_2 : decode cX6_endsAs 2 = .ok (.putfield 55, 3) := dk_181 0 55 (dk_at dksX6_endsAs_0 2 rfl rfl)
theorem dX6_endsAs_5 : decode cX6_endsAs 5 = .ok (.aload_n 0, 1) := dk_42 (dk_at dksX6_endsAs_0 5 rfl rfl)
theorem dX6_endsAs_6 : decode cX6_endsAs 6 = .ok (.iload_n 1, 1) := dk_27 (dk_at dksX6_endsAs_0 6 rfl rfl)
theorem dX6_endsAs_7 : decode cX6_endsAs 7 = .ok (.invokevirtual 330, 3) := dk_182 1 74 (dk_at dksX6_endsAs_0 7 rfl rfl)
theorem dX6_endsAs_10 : decode cX6_endsAs 10 = .ok (.ifCond .ne 12, 3) := dk_154 0 12 (dk_at dksX6_endsAs_0 10 rfl rfl)
theorem dX6_endsAs_13 : decode cX6_endsAs 13 = .ok (.aload_n 0, 1) := dk_42 (dk_at dksX6_endsAs_0 13 rfl rfl)
theorem dX6_endsAs_14 : decode cX6_endsAs 14 = .ok (.iload_n 2, 1) := dk_28 (dk_at dksX6_endsAs_0 14 rfl rfl)
theorem dX6_endsAs_15 : decode cX6_endsAs 15 = .ok (.iconst 2, 1) := dk_5 (dk_at dksX6_endsAs_0 15 rfl rfl)
theorem dX6_endsAs_16 : decode cX6_endsAs 16 = .ok (.invokevirtual 369, 3) := dk_182 1 113 (dk_at dksX6_endsAs_0 16 rfl rfl)
theorem dX6_endsAs_19 : decode cX6_endsAs 19 = .ok (.ifCond .eq 5, 3) := dk_153 0 5 (dk_at dksX6_endsAs_0 19 rfl rfl)
theorem dX6_endsAs_22 : decode cX6_endsAs 22 = .ok (.iconst 0, 1) := dk_3 (dk_at dksX6_endsAs_0 22 rfl rfl)
theorem dX6_endsAs_23 : decode cX6_endsAs 23 = .ok (.ireturn, 1) := dk_172 (dk_at dksX6_endsAs_0 23 rfl rfl)
theorem dX6_endsAs_24 : decode cX6_endsAs 24 = .ok (.aload_n 0, 1) := dk_42 (dk_at dksX6_endsAs_1 0 rfl rfl)
theorem dX6_endsAs_25 : decode cX6_endsAs 25 = .ok (.invokevirtual 363, 3) := dk_182 1 107 (dk_at dksX6_endsAs_1 1 rfl rfl)
theorem dX6_endsAs_28 : decode cX6_endsAs 28 = .ok (.aload_n 0, 1) := dk_42 (dk_at dksX6_endsAs_1 4 rfl rfl)
theorem dX6_endsAs_29 : decode cX6_endsAs 29 = .ok (.iload_n 2, 1) := dk_28 (dk_at dksX6_endsAs_1 5 rfl rfl)
theorem dX6_endsAs_30 : decode cX6_endsAs 30 = .ok (.invokevirtual 287, 3) := dk_182 1 31 (dk_at dksX6_endsAs_1 6 rfl rfl)
theorem dX6_endsAs_33 : decode cX6_endsAs 33 = .ok (.istore_n 3, 1) := dk_62 (dk_at dksX6_endsAs_1 9 rfl rfl)
theorem dX6_endsAs_34 : decode cX6_endsAs 34 = .ok (.aload_n 0, 1) := dk_42 (dk_at dksX6_endsAs_1 10 rfl rfl)
theorem dX6_endsAs_35 : decode cX6_endsAs 35 = .ok (.aload_n 0, 1) := dk_42 (dk_at dksX6_endsAs_1 11 rfl rfl)
theorem dX6_endsAs_36 : decode cX6_endsAs 36 = .ok (.iload_n 1, 1) := dk_27 (dk_at dksX6_endsAs_1 12 rfl rfl)
theorem dX6_endsAs_37 : decode cX6_endsAs 37 = .ok (.invokevirtual 372, 3) := dk_182 1 116 (dk_at dksX6_endsAs_1 13 rfl rfl)
theorem dX6_endsAs_40 : decode cX6_endsAs 40 = .ok (.invokevirtual 366, 3) := dk_182 1 110 (dk_at dksX6_endsAs_1 16 rfl rfl)
theorem dX6_endsAs_43 : decode cX6_endsAs 43 = .ok (.ireturn, 1) := dk_172 (dk_at dksX6_endsAs_1 19 rfl rfl)
abbrev cX6_noTicks : ByteArray := prog_19_method_77_code
def yX6_noTicks : MethodName := ⟨RX6, "noTicks", "(II)Z"⟩
def dkwX6_noTicks_0 : List UInt8 := [42, 27, 3, 17, 1, 244, 184, 0, 152, 154, 0, 7, 4, 167, 0, 4, 3, 28, 182, 1, 58, 172]
abbrev dktX6_noTicks_0 : List UInt8 := dkwX6_noTicks_0 ++ []
theorem dksX6_noTicks_0 : cX6_noTicks.data.toList.drop 0 = dktX6_noTicks_0 := by decide +kernel
theorem dX6_noTicks_0 : decode cX6_noTicks 0 = .ok (.aload_n 0, 1) := dk_42 (dk_at dksX6_noTicks_0 0 rfl rfl)
theorem dX6_noTicks_1 : decode cX6_noTicks 1 = .ok (.iload_n 1, 1) := dk_27 (dk_at dksX6_noTicks_0 1 rfl rfl)
theorem dX6_noTicks_2 : decode cX6_noTicks 2 = .ok (.iconst 0, 1) := dk_3 (dk_at dksX6_noTicks_0 2 rfl rfl)
theorem dX6_noTicks_3 : decode cX6_noTicks 3 = .ok (.sipush 500, 3) := dk_17 1 244 (dk_at dksX6_noTicks_0 3 rfl rfl)
theorem dX6_noTicks_6 : decode cX6_noTicks 6 = .ok (.invokestatic 152, 3) := dk_184 0 152 (dk_at dksX6_noTicks_0 6 rfl rfl)
theorem dX6_noTicks_9 : decode cX6_noTicks 9 = .ok (.ifCond .ne 7, 3) := dk_154 0 7 (dk_at dksX6_noTicks_0 9 rfl rfl)
theorem dX6_noTicks_12 : decode cX6_noTicks 12 = .ok (.iconst 1, 1) := dk_4 (dk_at dksX6_noTicks_0 12 rfl rfl)
theorem dX6_noTicks_13 : decode cX6_noTicks 13 = .ok (.goto 4, 3) := dk_167 0 4 (dk_at dksX6_noTicks_0 13 rfl rfl)
theorem dX6_noTicks_16 : decode cX6_noTicks 16 = .ok (.iconst 0, 1) := dk_3 (dk_at dksX6_noTicks_0 16 rfl rfl)
theorem dX6_noTicks_17 : decode cX6_noTicks 17 = .ok (.iload_n 2, 1) := dk_28 (dk_at dksX6_noTicks_0 17 rfl rfl)
theorem dX6_noTicks_18 : decode cX6_noTicks 18 = .ok (.invokevirtual 314, 3) := dk_182 1 58 (dk_at dksX6_noTicks_0 18 rfl rfl)
theorem dX6_noTicks_21 : decode cX6_noTicks 21 = .ok (.ireturn, 1) := dk_172 (dk_at dksX6_noTicks_0 21 rfl rfl)
abbrev cX6_endOf : ByteArray := prog_19_method_98_code
def yX6_endOf : MethodName := ⟨RX6, "endOf", "(I)I"⟩
def dkwX6_endOf_1 : List UInt8 := [182, 0, 62, 160, 0, 7, 4, 167, 0, 4, 5, 172, 28, 154, 0, 7, 3, 167, 0, 6, 28, 4, 96, 172]
abbrev dktX6_endOf_1 : List UInt8 := dkwX6_endOf_1 ++ []
def dkwX6_endOf_0 : List UInt8 := [42, 27, 6, 182, 0, 62, 61, 28, 4, 160, 0, 25, 42, 27, 16, 7, 182, 0, 62, 42, 27, 3]
abbrev dktX6_endOf_0 : List UInt8 := dkwX6_endOf_0 ++ dktX6_endOf_1
theorem dksX6_endOf_0 : cX6_endOf.data.toList.drop 0 = dktX6_endOf_0 := by decide +kernel
theorem dksX6_endOf_1 : cX6_endOf.data.toList.drop 22 = dktX6_endOf_1 := dk_seg dksX6_endOf_0 22 rfl rfl
theorem dX6_endOf_0 : decode cX6_endOf 0 = .ok (.aload_n 0, 1) := dk_42 (dk_at dksX6_endOf_0 0 rfl rfl)
theorem dX6_endOf_1 : decode cX6_endOf 1 = .ok (.iload_n 1, 1) := dk_27 (dk_at dksX6_endOf_0 1 rfl rfl)
theorem dX6_endOf_2 : decode cX6_endOf 2 = .ok (.iconst 3, 1) := dk_6 (dk_at dksX6_endOf_0 2 rfl rfl)
theorem dX6_endOf_3 : decode cX6_endOf 3 = .ok (.invokevirtual 62, 3) := dk_182 0 62 (dk_at dksX6_endOf_0 3 rfl rfl)
theorem dX6_endOf_6 : decode cX6_endOf 6 = .ok (.istore_n 2, 1) := dk_61 (dk_at dksX6_endOf_0 6 rfl rfl)
theorem dX6_endOf_7 : decode cX6_endOf 7 = .ok (.iload_n 2, 1) := dk_28 (dk_at dksX6_endOf_0 7 rfl rfl)
theorem dX6_endOf_8 : decode cX6_endOf 8 = .ok (.iconst 1, 1) := dk_4 (dk_at dksX6_endOf_0 8 rfl rfl)
theorem dX6_endOf_9 : decode cX6_endOf 9 = .ok (.if_icmp .ne 25, 3) := dk_160 0 25 (dk_at dksX6_endOf_0 9 rfl rfl)
theorem dX6_endOf_12 : decode cX6_endOf 12 = .ok (.aload_n 0, 1) := dk_42 (dk_at dksX6_endOf_0 12 rfl rfl)
theorem dX6_endOf_13 : decode cX6_endOf 13 = .ok (.iload_n 1, 1) := dk_27 (dk_at dksX6_endOf_0 13 rfl rfl)
theorem dX6_endOf_14 : decode cX6_endOf 14 = .ok (.bipush 7, 2) := dk_16 7 (dk_at dksX6_endOf_0 14 rfl rfl)
theorem dX6_endOf_16 : decode cX6_endOf 16 = .ok (.invokevirtual 62, 3) := dk_182 0 62 (dk_at dksX6_endOf_0 16 rfl rfl)
theorem dX6_endOf_19 : decode cX6_endOf 19 = .ok (.aload_n 0, 1) := dk_42 (dk_at dksX6_endOf_0 19 rfl rfl)
theorem dX6_endOf_20 : decode cX6_endOf 20 = .ok (.iload_n 1, 1) := dk_27 (dk_at dksX6_endOf_0 20 rfl rfl)
theorem dX6_endOf_21 : decode cX6_endOf 21 = .ok (.iconst 0, 1) := dk_3 (dk_at dksX6_endOf_0 21 rfl rfl)
theorem dX6_endOf_22 : decode cX6_endOf 22 = .ok (.invokevirtual 62, 3) := dk_182 0 62 (dk_at dksX6_endOf_1 0 rfl rfl)
theorem dX6_endOf_25 : decode cX6_endOf 25 = .ok (.if_icmp .ne 7, 3) := dk_160 0 7 (dk_at dksX6_endOf_1 3 rfl rfl)
theorem dX6_endOf_28 : decode cX6_endOf 28 = .ok (.iconst 1, 1) := dk_4 (dk_at dksX6_endOf_1 6 rfl rfl)
theorem dX6_endOf_29 : decode cX6_endOf 29 = .ok (.goto 4, 3) := dk_167 0 4 (dk_at dksX6_endOf_1 7 rfl rfl)
theorem dX6_endOf_32 : decode cX6_endOf 32 = .ok (.iconst 2, 1) := dk_5 (dk_at dksX6_endOf_1 10 rfl rfl)
theorem dX6_endOf_33 : decode cX6_endOf 33 = .ok (.ireturn, 1) := dk_172 (dk_at dksX6_endOf_1 11 rfl rfl)
theorem dX6_endOf_34 : decode cX6_endOf 34 = .ok (.iload_n 2, 1) := dk_28 (dk_at dksX6_endOf_1 12 rfl rfl)
theorem dX6_endOf_35 : decode cX6_endOf 35 = .ok (.ifCond .ne 7, 3) := dk_154 0 7 (dk_at dksX6_endOf_1 13 rfl rfl)
theorem dX6_endOf_38 : decode cX6_endOf 38 = .ok (.iconst 0, 1) := dk_3 (dk_at dksX6_endOf_1 16 rfl rfl)
theorem dX6_endOf_39 : decode cX6_endOf 39 = .ok (.goto 6, 3) := dk_167 0 6 (dk_at dksX6_endOf_1 17 rfl rfl)
theorem dX6_endOf_42 : decode cX6_endOf 42 = .ok (.iload_n 2, 1) := dk_28 (dk_at dksX6_endOf_1 20 rfl rfl)
theorem dX6_endOf_43 : decode cX6_endOf 43 = .ok (.iconst 1, 1) := dk_4 (dk_at dksX6_endOf_1 21 rfl rfl)
theorem dX6_endOf_44 : decode cX6_endOf 44 = .ok (.iadd, 1) := dk_96 (dk_at dksX6_endOf_1 22 rfl rfl)
theorem dX6_endOf_45 : decode cX6_endOf 45 = .ok (.ireturn, 1) := dk_172 (dk_at dksX6_endOf_1 23 rfl rfl)
abbrev cX6_heldIn : ByteArray := prog_19_method_100_code
def yX6_heldIn : MethodName := ⟨RX6, "heldIn", "(II)I"⟩
def dkwX6_heldIn_1 : List UInt8 := [42, 182, 1, 107, 42, 28, 182, 1, 31, 62, 42, 42, 27, 16, 6, 182, 0, 78, 182, 1, 110, 172]
abbrev dktX6_heldIn_1 : List UInt8 := dkwX6_heldIn_1 ++ []
def dkwX6_heldIn_0 : List UInt8 := [42, 3, 181, 0, 55, 42, 27, 182, 1, 77, 154, 0, 12, 42, 28, 5, 182, 1, 113, 153, 0, 5, 3, 172]
abbrev dktX6_heldIn_0 : List UInt8 := dkwX6_heldIn_0 ++ dktX6_heldIn_1
theorem dksX6_heldIn_0 : cX6_heldIn.data.toList.drop 0 = dktX6_heldIn_0 := by decide +kernel
theorem dksX6_heldIn_1 : cX6_heldIn.data.toList.drop 24 = dktX6_heldIn_1 := dk_seg dksX6_heldIn_0 24 rfl rfl
theorem dX6_heldIn_0 : decode cX6_heldIn 0 = .ok (.aload_n 0, 1) := dk_42 (dk_at dksX6_heldIn_0 0 rfl rfl)
theorem dX6_heldIn_1 : decode cX6_heldIn 1 = .ok (.iconst 0, 1) := dk_3 (dk_at dksX6_heldIn_0 1 rfl rfl)
theorem dX6_heldIn_2 : decode cX6_heldIn 2 = .ok (.putfield 55, 3) := dk_181 0 55 (dk_at dksX6_heldIn_0 2 rfl rfl)
theorem dX6_heldIn_5 : decode cX6_heldIn 5 = .ok (.aload_n 0, 1) := dk_42 (dk_at dksX6_heldIn_0 5 rfl rfl)
theorem dX6_heldIn_6 : decode cX6_heldIn 6 = .ok (.iload_n 1, 1) := dk_27 (dk_at dksX6_heldIn_0 6 rfl rfl)
theorem dX6_heldIn_7 : decode cX6_heldIn 7 = .ok (.invokevirtual 333, 3) := dk_182 1 77 (dk_at dksX6_heldIn_0 7 rfl rfl)
theorem dX6_heldIn_10 : decode cX6_heldIn 10 = .ok (.ifCond .ne 12, 3) := dk_154 0 12 (dk_at dksX6_heldIn_0 10 rfl rfl)
theorem dX6_heldIn_13 : decode cX6_heldIn 13 = .ok (.aload_n 0, 1) := dk_42 (dk_at dksX6_heldIn_0 13 rfl rfl)
theorem dX6_heldIn_14 : decode cX6_heldIn 14 = .ok (.iload_n 2, 1) := dk_28 (dk_at dksX6_heldIn_0 14 rfl rfl)
theorem dX6_heldIn_15 : decode cX6_heldIn 15 = .ok (.iconst 2, 1) := dk_5 (dk_at dksX6_heldIn_0 15 rfl rfl)
theorem dX6_heldIn_16 : decode cX6_heldIn 16 = .ok (.invokevirtual 369, 3) := dk_182 1 113 (dk_at dksX6_heldIn_0 16 rfl rfl)
theorem dX6_heldIn_19 : decode cX6_heldIn 19 = .ok (.ifCond .eq 5, 3) := dk_153 0 5 (dk_at dksX6_heldIn_0 19 rfl rfl)
theorem dX6_heldIn_22 : decode cX6_heldIn 22 = .ok (.iconst 0, 1) := dk_3 (dk_at dksX6_heldIn_0 22 rfl rfl)
theorem dX6_heldIn_23 : decode cX6_heldIn 23 = .ok (.ireturn, 1) := dk_172 (dk_at dksX6_heldIn_0 23 rfl rfl)
theorem dX6_heldIn_24 : decode cX6_heldIn 24 = .ok (.aload_n 0, 1) := dk_42 (dk_at dksX6_heldIn_1 0 rfl rfl)
theorem dX6_heldIn_25 : decode cX6_heldIn 25 = .ok (.invokevirtual 363, 3) := dk_182 1 107 (dk_at dksX6_heldIn_1 1 rfl rfl)
theorem dX6_heldIn_28 : decode cX6_heldIn 28 = .ok (.aload_n 0, 1) := dk_42 (dk_at dksX6_heldIn_1 4 rfl rfl)
theorem dX6_heldIn_29 : decode cX6_heldIn 29 = .ok (.iload_n 2, 1) := dk_28 (dk_at dksX6_heldIn_1 5 rfl rfl)
theorem dX6_heldIn_30 : decode cX6_heldIn 30 = .ok (.invokevirtual 287, 3) := dk_182 1 31 (dk_at dksX6_heldIn_1 6 rfl rfl)
theorem dX6_heldIn_33 : decode cX6_heldIn 33 = .ok (.istore_n 3, 1) := dk_62 (dk_at dksX6_heldIn_1 9 rfl rfl)
theorem dX6_heldIn_34 : decode cX6_heldIn 34 = .ok (.aload_n 0, 1) := dk_42 (dk_at dksX6_heldIn_1 10 rfl rfl)
theorem dX6_heldIn_35 : decode cX6_heldIn 35 = .ok (.aload_n 0, 1) := dk_42 (dk_at dksX6_heldIn_1 11 rfl rfl)
theorem dX6_heldIn_36 : decode cX6_heldIn 36 = .ok (.iload_n 1, 1) := dk_27 (dk_at dksX6_heldIn_1 12 rfl rfl)
theorem dX6_heldIn_37 : decode cX6_heldIn 37 = .ok (.bipush 6, 2) := dk_16 6 (dk_at dksX6_heldIn_1 13 rfl rfl)
theorem dX6_heldIn_39 : decode cX6_heldIn 39 = .ok (.invokevirtual 78, 3) := dk_182 0 78 (dk_at dksX6_heldIn_1 15 rfl rfl)
theorem dX6_heldIn_42 : decode cX6_heldIn 42 = .ok (.invokevirtual 366, 3) := dk_182 1 110 (dk_at dksX6_heldIn_1 18 rfl rfl)
theorem dX6_heldIn_45 : decode cX6_heldIn 45 = .ok (.ireturn, 1) := dk_172 (dk_at dksX6_heldIn_1 21 rfl rfl)
abbrev cX6_growsIn : ByteArray := prog_19_method_102_code
def yX6_growsIn : MethodName := ⟨RX6, "growsIn", "(II)I"⟩
def dkwX6_growsIn_2 : List UInt8 := [182, 1, 119, 172]
abbrev dktX6_growsIn_2 : List UInt8 := dkwX6_growsIn_2 ++ []
def dkwX6_growsIn_1 : List UInt8 := [182, 1, 58, 154, 0, 12, 42, 28, 4, 182, 1, 113, 153, 0, 7, 3, 167, 0, 9, 42, 27, 28]
abbrev dktX6_growsIn_1 : List UInt8 := dkwX6_growsIn_1 ++ dktX6_growsIn_2
def dkwX6_growsIn_0 : List UInt8 := [42, 3, 181, 0, 55, 42, 27, 3, 16, 11, 184, 0, 152, 154, 0, 7, 4, 167, 0, 4, 3, 4]
abbrev dktX6_growsIn_0 : List UInt8 := dkwX6_growsIn_0 ++ dktX6_growsIn_1
theorem dksX6_growsIn_0 : cX6_growsIn.data.toList.drop 0 = dktX6_growsIn_0 := by decide +kernel
theorem dksX6_growsIn_1 : cX6_growsIn.data.toList.drop 22 = dktX6_growsIn_1 := dk_seg dksX6_growsIn_0 22 rfl rfl
theorem dksX6_growsIn_2 : cX6_growsIn.data.toList.drop 44 = dktX6_growsIn_2 := dk_seg dksX6_growsIn_1 22 rfl rfl
theorem dX6_growsIn_0 : decode cX6_growsIn 0 = .ok (.aload_n 0, 1) := dk_42 (dk_at dksX6_growsIn_0 0 rfl rfl)
theorem dX6_growsIn_1 : decode cX6_growsIn 1 = .ok (.iconst 0, 1) := dk_3 (dk_at dksX6_growsIn_0 1 rfl rfl)
theorem dX6_growsIn_2 : decode cX6_growsIn 2 = .ok (.putfield 55, 3) := dk_181 0 55 (dk_at dksX6_growsIn_0 2 rfl rfl)
theorem dX6_growsIn_5 : decode cX6_growsIn 5 = .ok (.aload_n 0, 1) := dk_42 (dk_at dksX6_growsIn_0 5 rfl rfl)
theorem dX6_growsIn_6 : decode cX6_growsIn 6 = .ok (.iload_n 1, 1) := dk_27 (dk_at dksX6_growsIn_0 6 rfl rfl)
theorem dX6_growsIn_7 : decode cX6_growsIn 7 = .ok (.iconst 0, 1) := dk_3 (dk_at dksX6_growsIn_0 7 rfl rfl)
theorem dX6_growsIn_8 : decode cX6_growsIn 8 = .ok (.bipush 11, 2) := dk_16 11 (dk_at dksX6_growsIn_0 8 rfl rfl)
theorem dX6_growsIn_10 : decode cX6_growsIn 10 = .ok (.invokestatic 152, 3) := dk_184 0 152 (dk_at dksX6_growsIn_0 10 rfl rfl)
theorem dX6_growsIn_13 : decode cX6_growsIn 13 = .ok (.ifCond .ne 7, 3) := dk_154 0 7 (dk_at dksX6_growsIn_0 13 rfl rfl)
theorem dX6_growsIn_16 : decode cX6_growsIn 16 = .ok (.iconst 1, 1) := dk_4 (dk_at dksX6_growsIn_0 16 rfl rfl)
theorem dX6_growsIn_17 : decode cX6_growsIn 17 = .ok (.goto 4, 3) := dk_167 0 4 (dk_at dksX6_growsIn_0 17 rfl rfl)
theorem dX6_growsIn_20 : decode cX6_growsIn 20 = .ok (.iconst 0, 1) := dk_3 (dk_at dksX6_growsIn_0 20 rfl rfl)
theorem dX6_growsIn_21 : decode cX6_growsIn 21 = .ok (.iconst 1, 1) := dk_4 (dk_at dksX6_growsIn_0 21 rfl rfl)
theorem dX6_growsIn_22 : decode cX6_growsIn 22 = .ok (.invokevirtual 314, 3) := dk_182 1 58 (dk_at dksX6_growsIn_1 0 rfl rfl)
theorem dX6_growsIn_25 : decode cX6_growsIn 25 = .ok (.ifCond .ne 12, 3) := dk_154 0 12 (dk_at dksX6_growsIn_1 3 rfl rfl)
theorem dX6_growsIn_28 : decode cX6_growsIn 28 = .ok (.aload_n 0, 1) := dk_42 (dk_at dksX6_growsIn_1 6 rfl rfl)
theorem dX6_growsIn_29 : decode cX6_growsIn 29 = .ok (.iload_n 2, 1) := dk_28 (dk_at dksX6_growsIn_1 7 rfl rfl)
theorem dX6_growsIn_30 : decode cX6_growsIn 30 = .ok (.iconst 1, 1) := dk_4 (dk_at dksX6_growsIn_1 8 rfl rfl)
theorem dX6_growsIn_31 : decode cX6_growsIn 31 = .ok (.invokevirtual 369, 3) := dk_182 1 113 (dk_at dksX6_growsIn_1 9 rfl rfl)
theorem dX6_growsIn_34 : decode cX6_growsIn 34 = .ok (.ifCond .eq 7, 3) := dk_153 0 7 (dk_at dksX6_growsIn_1 12 rfl rfl)
theorem dX6_growsIn_37 : decode cX6_growsIn 37 = .ok (.iconst 0, 1) := dk_3 (dk_at dksX6_growsIn_1 15 rfl rfl)
theorem dX6_growsIn_38 : decode cX6_growsIn 38 = .ok (.goto 9, 3) := dk_167 0 9 (dk_at dksX6_growsIn_1 16 rfl rfl)
theorem dX6_growsIn_41 : decode cX6_growsIn 41 = .ok (.aload_n 0, 1) := dk_42 (dk_at dksX6_growsIn_1 19 rfl rfl)
theorem dX6_growsIn_42 : decode cX6_growsIn 42 = .ok (.iload_n 1, 1) := dk_27 (dk_at dksX6_growsIn_1 20 rfl rfl)
theorem dX6_growsIn_43 : decode cX6_growsIn 43 = .ok (.iload_n 2, 1) := dk_28 (dk_at dksX6_growsIn_1 21 rfl rfl)
theorem dX6_growsIn_44 : decode cX6_growsIn 44 = .ok (.invokevirtual 375, 3) := dk_182 1 119 (dk_at dksX6_growsIn_2 0 rfl rfl)
theorem dX6_growsIn_47 : decode cX6_growsIn 47 = .ok (.ireturn, 1) := dk_172 (dk_at dksX6_growsIn_2 3 rfl rfl)
abbrev cX6_grows : ByteArray := prog_19_method_101_code
def yX6_grows : MethodName := ⟨RX6, "grows", "(II)I"⟩
def dkwX6_grows_1 : List UInt8 := [180, 0, 7, 16, 7, 27, 96, 46, 29, 100, 182, 1, 110, 172]
abbrev dktX6_grows_1 : List UInt8 := dkwX6_grows_1 ++ []
def dkwX6_grows_0 : List UInt8 := [42, 180, 0, 7, 16, 7, 27, 96, 46, 62, 42, 182, 1, 107, 42, 28, 182, 1, 31, 54, 4, 42, 42]
abbrev dktX6_grows_0 : List UInt8 := dkwX6_grows_0 ++ dktX6_grows_1
theorem dksX6_grows_0 : cX6_grows.data.toList.drop 0 = dktX6_grows_0 := by decide +kernel
theorem dksX6_grows_1 : cX6_grows.data.toList.drop 23 = dktX6_grows_1 := dk_seg dksX6_grows_0 23 rfl rfl
theorem dX6_grows_0 : decode cX6_grows 0 = .ok (.aload_n 0, 1) := dk_42 (dk_at dksX6_grows_0 0 rfl rfl)
theorem dX6_grows_1 : decode cX6_grows 1 = .ok (.getfield 7, 3) := dk_180 0 7 (dk_at dksX6_grows_0 1 rfl rfl)
theorem dX6_grows_4 : decode cX6_grows 4 = .ok (.bipush 7, 2) := dk_16 7 (dk_at dksX6_grows_0 4 rfl rfl)
theorem dX6_grows_6 : decode cX6_grows 6 = .ok (.iload_n 1, 1) := dk_27 (dk_at dksX6_grows_0 6 rfl rfl)
theorem dX6_grows_7 : decode cX6_grows 7 = .ok (.iadd, 1) := dk_96 (dk_at dksX6_grows_0 7 rfl rfl)
theorem dX6_grows_8 : decode cX6_grows 8 = .ok (.iaload, 1) := dk_46 (dk_at dksX6_grows_0 8 rfl rfl)
theorem dX6_grows_9 : decode cX6_grows 9 = .ok (.istore_n 3, 1) := dk_62 (dk_at dksX6_grows_0 9 rfl rfl)
theorem dX6_grows_10 : decode cX6_grows 10 = .ok (.aload_n 0, 1) := dk_42 (dk_at dksX6_grows_0 10 rfl rfl)
theorem dX6_grows_11 : decode cX6_grows 11 = .ok (.invokevirtual 363, 3) := dk_182 1 107 (dk_at dksX6_grows_0 11 rfl rfl)
theorem dX6_grows_14 : decode cX6_grows 14 = .ok (.aload_n 0, 1) := dk_42 (dk_at dksX6_grows_0 14 rfl rfl)
theorem dX6_grows_15 : decode cX6_grows 15 = .ok (.iload_n 2, 1) := dk_28 (dk_at dksX6_grows_0 15 rfl rfl)
theorem dX6_grows_16 : decode cX6_grows 16 = .ok (.invokevirtual 287, 3) := dk_182 1 31 (dk_at dksX6_grows_0 16 rfl rfl)
theorem dX6_grows_19 : decode cX6_grows 19 = .ok (.istore 4, 2) := dk_54 4 (dk_at dksX6_grows_0 19 rfl rfl)
theorem dX6_grows_21 : decode cX6_grows 21 = .ok (.aload_n 0, 1) := dk_42 (dk_at dksX6_grows_0 21 rfl rfl)
theorem dX6_grows_22 : decode cX6_grows 22 = .ok (.aload_n 0, 1) := dk_42 (dk_at dksX6_grows_0 22 rfl rfl)
theorem dX6_grows_23 : decode cX6_grows 23 = .ok (.getfield 7, 3) := dk_180 0 7 (dk_at dksX6_grows_1 0 rfl rfl)
theorem dX6_grows_26 : decode cX6_grows 26 = .ok (.bipush 7, 2) := dk_16 7 (dk_at dksX6_grows_1 3 rfl rfl)
theorem dX6_grows_28 : decode cX6_grows 28 = .ok (.iload_n 1, 1) := dk_27 (dk_at dksX6_grows_1 5 rfl rfl)
theorem dX6_grows_29 : decode cX6_grows 29 = .ok (.iadd, 1) := dk_96 (dk_at dksX6_grows_1 6 rfl rfl)
theorem dX6_grows_30 : decode cX6_grows 30 = .ok (.iaload, 1) := dk_46 (dk_at dksX6_grows_1 7 rfl rfl)
theorem dX6_grows_31 : decode cX6_grows 31 = .ok (.iload_n 3, 1) := dk_29 (dk_at dksX6_grows_1 8 rfl rfl)
theorem dX6_grows_32 : decode cX6_grows 32 = .ok (.isub, 1) := dk_100 (dk_at dksX6_grows_1 9 rfl rfl)
theorem dX6_grows_33 : decode cX6_grows 33 = .ok (.invokevirtual 366, 3) := dk_182 1 110 (dk_at dksX6_grows_1 10 rfl rfl)
theorem dX6_grows_36 : decode cX6_grows 36 = .ok (.ireturn, 1) := dk_172 (dk_at dksX6_grows_1 13 rfl rfl)
abbrev cX6_gainOf : ByteArray := prog_19_method_104_code
def yX6_gainOf : MethodName := ⟨RX6, "gainOf", "(II)I"⟩
def dkwX6_gainOf_1 : List UInt8 := [167, 0, 9, 42, 27, 28, 182, 1, 122, 172]
abbrev dktX6_gainOf_1 : List UInt8 := dkwX6_gainOf_1 ++ []
def dkwX6_gainOf_0 : List UInt8 := [42, 3, 181, 0, 55, 42, 27, 182, 1, 77, 154, 0, 12, 42, 28, 5, 182, 1, 113, 153, 0, 7, 3]
abbrev dktX6_gainOf_0 : List UInt8 := dkwX6_gainOf_0 ++ dktX6_gainOf_1
theorem dksX6_gainOf_0 : cX6_gainOf.data.toList.drop 0 = dktX6_gainOf_0 := by decide +kernel
theorem dksX6_gainOf_1 : cX6_gainOf.data.toList.drop 23 = dktX6_gainOf_1 := dk_seg dksX6_gainOf_0 23 rfl rfl
theorem dX6_gainOf_0 : decode cX6_gainOf 0 = .ok (.aload_n 0, 1) := dk_42 (dk_at dksX6_gainOf_0 0 rfl rfl)
theorem dX6_gainOf_1 : decode cX6_gainOf 1 = .ok (.iconst 0, 1) := dk_3 (dk_at dksX6_gainOf_0 1 rfl rfl)
theorem dX6_gainOf_2 : decode cX6_gainOf 2 = .ok (.putfield 55, 3) := dk_181 0 55 (dk_at dksX6_gainOf_0 2 rfl rfl)
theorem dX6_gainOf_5 : decode cX6_gainOf 5 = .ok (.aload_n 0, 1) := dk_42 (dk_at dksX6_gainOf_0 5 rfl rfl)
theorem dX6_gainOf_6 : decode cX6_gainOf 6 = .ok (.iload_n 1, 1) := dk_27 (dk_at dksX6_gainOf_0 6 rfl rfl)
theorem dX6_gainOf_7 : decode cX6_gainOf 7 = .ok (.invokevirtual 333, 3) := dk_182 1 77 (dk_at dksX6_gainOf_0 7 rfl rfl)
theorem dX6_gainOf_10 : decode cX6_gainOf 10 = .ok (.ifCond .ne 12, 3) := dk_154 0 12 (dk_at dksX6_gainOf_0 10 rfl rfl)
theorem dX6_gainOf_13 : decode cX6_gainOf 13 = .ok (.aload_n 0, 1) := dk_42 (dk_at dksX6_gainOf_0 13 rfl rfl)
theorem dX6_gainOf_14 : decode cX6_gainOf 14 = .ok (.iload_n 2, 1) := dk_28 (dk_at dksX6_gainOf_0 14 rfl rfl)
theorem dX6_gainOf_15 : decode cX6_gainOf 15 = .ok (.iconst 2, 1) := dk_5 (dk_at dksX6_gainOf_0 15 rfl rfl)
theorem dX6_gainOf_16 : decode cX6_gainOf 16 = .ok (.invokevirtual 369, 3) := dk_182 1 113 (dk_at dksX6_gainOf_0 16 rfl rfl)
theorem dX6_gainOf_19 : decode cX6_gainOf 19 = .ok (.ifCond .eq 7, 3) := dk_153 0 7 (dk_at dksX6_gainOf_0 19 rfl rfl)
theorem dX6_gainOf_22 : decode cX6_gainOf 22 = .ok (.iconst 0, 1) := dk_3 (dk_at dksX6_gainOf_0 22 rfl rfl)
theorem dX6_gainOf_23 : decode cX6_gainOf 23 = .ok (.goto 9, 3) := dk_167 0 9 (dk_at dksX6_gainOf_1 0 rfl rfl)
theorem dX6_gainOf_26 : decode cX6_gainOf 26 = .ok (.aload_n 0, 1) := dk_42 (dk_at dksX6_gainOf_1 3 rfl rfl)
theorem dX6_gainOf_27 : decode cX6_gainOf 27 = .ok (.iload_n 1, 1) := dk_27 (dk_at dksX6_gainOf_1 4 rfl rfl)
theorem dX6_gainOf_28 : decode cX6_gainOf 28 = .ok (.iload_n 2, 1) := dk_28 (dk_at dksX6_gainOf_1 5 rfl rfl)
theorem dX6_gainOf_29 : decode cX6_gainOf 29 = .ok (.invokevirtual 378, 3) := dk_182 1 122 (dk_at dksX6_gainOf_1 6 rfl rfl)
theorem dX6_gainOf_32 : decode cX6_gainOf 32 = .ok (.ireturn, 1) := dk_172 (dk_at dksX6_gainOf_1 9 rfl rfl)
abbrev cX6_gain : ByteArray := prog_19_method_103_code
def yX6_gain : MethodName := ⟨RX6, "gain", "(II)I"⟩
def dkwX6_gain_2 : List UInt8 := [180, 0, 7, 16, 9, 46, 21, 4, 100, 29, 100, 182, 1, 110, 172]
abbrev dktX6_gain_2 : List UInt8 := dkwX6_gain_2 ++ []
def dkwX6_gain_1 : List UInt8 := [182, 1, 40, 54, 5, 42, 27, 4, 182, 1, 43, 54, 6, 42, 28, 182, 1, 31, 54, 7, 42, 42]
abbrev dktX6_gain_1 : List UInt8 := dkwX6_gain_1 ++ dktX6_gain_2
def dkwX6_gain_0 : List UInt8 := [42, 5, 28, 182, 1, 119, 62, 42, 180, 0, 7, 16, 9, 46, 54, 4, 42, 182, 1, 107, 42, 27]
abbrev dktX6_gain_0 : List UInt8 := dkwX6_gain_0 ++ dktX6_gain_1
theorem dksX6_gain_0 : cX6_gain.data.toList.drop 0 = dktX6_gain_0 := by decide +kernel
theorem dksX6_gain_1 : cX6_gain.data.toList.drop 22 = dktX6_gain_1 := dk_seg dksX6_gain_0 22 rfl rfl
theorem dksX6_gain_2 : cX6_gain.data.toList.drop 44 = dktX6_gain_2 := dk_seg dksX6_gain_1 22 rfl rfl
theorem dX6_gain_0 : decode cX6_gain 0 = .ok (.aload_n 0, 1) := dk_42 (dk_at dksX6_gain_0 0 rfl rfl)
theorem dX6_gain_1 : decode cX6_gain 1 = .ok (.iconst 2, 1) := dk_5 (dk_at dksX6_gain_0 1 rfl rfl)
theorem dX6_gain_2 : decode cX6_gain 2 = .ok (.iload_n 2, 1) := dk_28 (dk_at dksX6_gain_0 2 rfl rfl)
theorem dX6_gain_3 : decode cX6_gain 3 = .ok (.invokevirtual 375, 3) := dk_182 1 119 (dk_at dksX6_gain_0 3 rfl rfl)
theorem dX6_gain_6 : decode cX6_gain 6 = .ok (.istore_n 3, 1) := dk_62 (dk_at dksX6_gain_0 6 rfl rfl)
theorem dX6_gain_7 : decode cX6_gain 7 = .ok (.aload_n 0, 1) := dk_42 (dk_at dksX6_gain_0 7 rfl rfl)
theorem dX6_gain_8 : decode cX6_gain 8 = .ok (.getfield 7, 3) := dk_180 0 7 (dk_at dksX6_gain_0 8 rfl rfl)
theorem dX6_gain_11 : decode cX6_gain 11 = .ok (.bipush 9, 2) := dk_16 9 (dk_at dksX6_gain_0 11 rfl rfl)
theorem dX6_gain_13 : decode cX6_gain 13 = .ok (.iaload, 1) := dk_46 (dk_at dksX6_gain_0 13 rfl rfl)
theorem dX6_gain_14 : decode cX6_gain 14 = .ok (.istore 4, 2) := dk_54 4 (dk_at dksX6_gain_0 14 rfl rfl)
theorem dX6_gain_16 : decode cX6_gain 16 = .ok (.aload_n 0, 1) := dk_42 (dk_at dksX6_gain_0 16 rfl rfl)
theorem dX6_gain_17 : decode cX6_gain 17 = .ok (.invokevirtual 363, 3) := dk_182 1 107 (dk_at dksX6_gain_0 17 rfl rfl)
theorem dX6_gain_20 : decode cX6_gain 20 = .ok (.aload_n 0, 1) := dk_42 (dk_at dksX6_gain_0 20 rfl rfl)
theorem dX6_gain_21 : decode cX6_gain 21 = .ok (.iload_n 1, 1) := dk_27 (dk_at dksX6_gain_0 21 rfl rfl)
theorem dX6_gain_22 : decode cX6_gain 22 = .ok (.invokevirtual 296, 3) := dk_182 1 40 (dk_at dksX6_gain_1 0 rfl rfl)
theorem dX6_gain_25 : decode cX6_gain 25 = .ok (.istore 5, 2) := dk_54 5 (dk_at dksX6_gain_1 3 rfl rfl)
theorem dX6_gain_27 : decode cX6_gain 27 = .ok (.aload_n 0, 1) := dk_42 (dk_at dksX6_gain_1 5 rfl rfl)
theorem dX6_gain_28 : decode cX6_gain 28 = .ok (.iload_n 1, 1) := dk_27 (dk_at dksX6_gain_1 6 rfl rfl)
theorem dX6_gain_29 : decode cX6_gain 29 = .ok (.iconst 1, 1) := dk_4 (dk_at dksX6_gain_1 7 rfl rfl)
theorem dX6_gain_30 : decode cX6_gain 30 = .ok (.invokevirtual 299, 3) := dk_182 1 43 (dk_at dksX6_gain_1 8 rfl rfl)
theorem dX6_gain_33 : decode cX6_gain 33 = .ok (.istore 6, 2) := dk_54 6 (dk_at dksX6_gain_1 11 rfl rfl)
theorem dX6_gain_35 : decode cX6_gain 35 = .ok (.aload_n 0, 1) := dk_42 (dk_at dksX6_gain_1 13 rfl rfl)
theorem dX6_gain_36 : decode cX6_gain 36 = .ok (.iload_n 2, 1) := dk_28 (dk_at dksX6_gain_1 14 rfl rfl)
theorem dX6_gain_37 : decode cX6_gain 37 = .ok (.invokevirtual 287, 3) := dk_182 1 31 (dk_at dksX6_gain_1 15 rfl rfl)
theorem dX6_gain_40 : decode cX6_gain 40 = .ok (.istore 7, 2) := dk_54 7 (dk_at dksX6_gain_1 18 rfl rfl)
theorem dX6_gain_42 : decode cX6_gain 42 = .ok (.aload_n 0, 1) := dk_42 (dk_at dksX6_gain_1 20 rfl rfl)
theorem dX6_gain_43 : decode cX6_gain 43 = .ok (.aload_n 0, 1) := dk_42 (dk_at dksX6_gain_1 21 rfl rfl)
theorem dX6_gain_44 : decode cX6_gain 44 = .ok (.getfield 7, 3) := dk_180 0 7 (dk_at dksX6_gain_2 0 rfl rfl)
theorem dX6_gain_47 : decode cX6_gain 47 = .ok (.bipush 9, 2) := dk_16 9 (dk_at dksX6_gain_2 3 rfl rfl)
theorem dX6_gain_49 : decode cX6_gain 49 = .ok (.iaload, 1) := dk_46 (dk_at dksX6_gain_2 5 rfl rfl)
theorem dX6_gain_50 : decode cX6_gain 50 = .ok (.iload 4, 2) := dk_21 4 (dk_at dksX6_gain_2 6 rfl rfl)
theorem dX6_gain_52 : decode cX6_gain 52 = .ok (.isub, 1) := dk_100 (dk_at dksX6_gain_2 8 rfl rfl)
theorem dX6_gain_53 : decode cX6_gain 53 = .ok (.iload_n 3, 1) := dk_29 (dk_at dksX6_gain_2 9 rfl rfl)
theorem dX6_gain_54 : decode cX6_gain 54 = .ok (.isub, 1) := dk_100 (dk_at dksX6_gain_2 10 rfl rfl)
theorem dX6_gain_55 : decode cX6_gain 55 = .ok (.invokevirtual 366, 3) := dk_182 1 110 (dk_at dksX6_gain_2 11 rfl rfl)
theorem dX6_gain_58 : decode cX6_gain 58 = .ok (.ireturn, 1) := dk_172 (dk_at dksX6_gain_2 14 rfl rfl)
abbrev cX6_bestEmpty : ByteArray := prog_19_method_105_code
def yX6_bestEmpty : MethodName := ⟨RX6, "bestEmpty", "(I)I"⟩
def dkwX6_bestEmpty_2 : List UInt8 := [164, 0, 6, 21, 4, 61, 29, 21, 5, 184, 0, 113, 62, 132, 4, 1, 167, 255, 217, 28, 172]
abbrev dktX6_bestEmpty_2 : List UInt8 := dkwX6_bestEmpty_2 ++ []
def dkwX6_bestEmpty_1 : List UInt8 := [21, 4, 42, 180, 0, 7, 6, 46, 162, 0, 34, 42, 21, 4, 27, 182, 1, 122, 54, 5, 21, 5, 29]
abbrev dktX6_bestEmpty_1 : List UInt8 := dkwX6_bestEmpty_1 ++ dktX6_bestEmpty_2
def dkwX6_bestEmpty_0 : List UInt8 := [42, 3, 181, 0, 55, 42, 27, 4, 182, 1, 113, 153, 0, 5, 3, 172, 2, 61, 3, 62, 3, 54, 4]
abbrev dktX6_bestEmpty_0 : List UInt8 := dkwX6_bestEmpty_0 ++ dktX6_bestEmpty_1
theorem dksX6_bestEmpty_0 : cX6_bestEmpty.data.toList.drop 0 = dktX6_bestEmpty_0 := by decide +kernel
theorem dksX6_bestEmpty_1 : cX6_bestEmpty.data.toList.drop 23 = dktX6_bestEmpty_1 := dk_seg dksX6_bestEmpty_0 23 rfl rfl
theorem dksX6_bestEmpty_2 : cX6_bestEmpty.data.toList.drop 46 = dktX6_bestEmpty_2 := dk_seg dksX6_bestEmpty_1 23 rfl rfl
theorem dX6_bestEmpty_0 : decode cX6_bestEmpty 0 = .ok (.aload_n 0, 1) := dk_42 (dk_at dksX6_bestEmpty_0 0 rfl rfl)
theorem dX6_bestEmpty_1 : decode cX6_bestEmpty 1 = .ok (.iconst 0, 1) := dk_3 (dk_at dksX6_bestEmpty_0 1 rfl rfl)
theorem dX6_bestEmpty_2 : decode cX6_bestEmpty 2 = .ok (.putfield 55, 3) := dk_181 0 55 (dk_at dksX6_bestEmpty_0 2 rfl rfl)
theorem dX6_bestEmpty_5 : decode cX6_bestEmpty 5 = .ok (.aload_n 0, 1) := dk_42 (dk_at dksX6_bestEmpty_0 5 rfl rfl)
theorem dX6_bestEmpty_6 : decode cX6_bestEmpty 6 = .ok (.iload_n 1, 1) := dk_27 (dk_at dksX6_bestEmpty_0 6 rfl rfl)
theorem dX6_bestEmpty_7 : decode cX6_bestEmpty 7 = .ok (.iconst 1, 1) := dk_4 (dk_at dksX6_bestEmpty_0 7 rfl rfl)
theorem dX6_bestEmpty_8 : decode cX6_bestEmpty 8 = .ok (.invokevirtual 369, 3) := dk_182 1 113 (dk_at dksX6_bestEmpty_0 8 rfl rfl)
theorem dX6_bestEmpty_11 : decode cX6_bestEmpty 11 = .ok (.ifCond .eq 5, 3) := dk_153 0 5 (dk_at dksX6_bestEmpty_0 11 rfl rfl)
theorem dX6_bestEmpty_14 : decode cX6_bestEmpty 14 = .ok (.iconst 0, 1) := dk_3 (dk_at dksX6_bestEmpty_0 14 rfl rfl)
theorem dX6_bestEmpty_15 : decode cX6_bestEmpty 15 = .ok (.ireturn, 1) := dk_172 (dk_at dksX6_bestEmpty_0 15 rfl rfl)
theorem dX6_bestEmpty_16 : decode cX6_bestEmpty 16 = .ok (.iconst (-1), 1) := dk_2 (dk_at dksX6_bestEmpty_0 16 rfl rfl)
theorem dX6_bestEmpty_17 : decode cX6_bestEmpty 17 = .ok (.istore_n 2, 1) := dk_61 (dk_at dksX6_bestEmpty_0 17 rfl rfl)
theorem dX6_bestEmpty_18 : decode cX6_bestEmpty 18 = .ok (.iconst 0, 1) := dk_3 (dk_at dksX6_bestEmpty_0 18 rfl rfl)
theorem dX6_bestEmpty_19 : decode cX6_bestEmpty 19 = .ok (.istore_n 3, 1) := dk_62 (dk_at dksX6_bestEmpty_0 19 rfl rfl)
theorem dX6_bestEmpty_20 : decode cX6_bestEmpty 20 = .ok (.iconst 0, 1) := dk_3 (dk_at dksX6_bestEmpty_0 20 rfl rfl)
theorem dX6_bestEmpty_21 : decode cX6_bestEmpty 21 = .ok (.istore 4, 2) := dk_54 4 (dk_at dksX6_bestEmpty_0 21 rfl rfl)
theorem dX6_bestEmpty_23 : decode cX6_bestEmpty 23 = .ok (.iload 4, 2) := dk_21 4 (dk_at dksX6_bestEmpty_1 0 rfl rfl)
theorem dX6_bestEmpty_25 : decode cX6_bestEmpty 25 = .ok (.aload_n 0, 1) := dk_42 (dk_at dksX6_bestEmpty_1 2 rfl rfl)
theorem dX6_bestEmpty_26 : decode cX6_bestEmpty 26 = .ok (.getfield 7, 3) := dk_180 0 7 (dk_at dksX6_bestEmpty_1 3 rfl rfl)
theorem dX6_bestEmpty_29 : decode cX6_bestEmpty 29 = .ok (.iconst 3, 1) := dk_6 (dk_at dksX6_bestEmpty_1 6 rfl rfl)
theorem dX6_bestEmpty_30 : decode cX6_bestEmpty 30 = .ok (.iaload, 1) := dk_46 (dk_at dksX6_bestEmpty_1 7 rfl rfl)
theorem dX6_bestEmpty_31 : decode cX6_bestEmpty 31 = .ok (.if_icmp .ge 34, 3) := dk_162 0 34 (dk_at dksX6_bestEmpty_1 8 rfl rfl)
theorem dX6_bestEmpty_34 : decode cX6_bestEmpty 34 = .ok (.aload_n 0, 1) := dk_42 (dk_at dksX6_bestEmpty_1 11 rfl rfl)
theorem dX6_bestEmpty_35 : decode cX6_bestEmpty 35 = .ok (.iload 4, 2) := dk_21 4 (dk_at dksX6_bestEmpty_1 12 rfl rfl)
theorem dX6_bestEmpty_37 : decode cX6_bestEmpty 37 = .ok (.iload_n 1, 1) := dk_27 (dk_at dksX6_bestEmpty_1 14 rfl rfl)
theorem dX6_bestEmpty_38 : decode cX6_bestEmpty 38 = .ok (.invokevirtual 378, 3) := dk_182 1 122 (dk_at dksX6_bestEmpty_1 15 rfl rfl)
theorem dX6_bestEmpty_41 : decode cX6_bestEmpty 41 = .ok (.istore 5, 2) := dk_54 5 (dk_at dksX6_bestEmpty_1 18 rfl rfl)
theorem dX6_bestEmpty_43 : decode cX6_bestEmpty 43 = .ok (.iload 5, 2) := dk_21 5 (dk_at dksX6_bestEmpty_1 20 rfl rfl)
theorem dX6_bestEmpty_45 : decode cX6_bestEmpty 45 = .ok (.iload_n 3, 1) := dk_29 (dk_at dksX6_bestEmpty_1 22 rfl rfl)
theorem dX6_bestEmpty_46 : decode cX6_bestEmpty 46 = .ok (.if_icmp .le 6, 3) := dk_164 0 6 (dk_at dksX6_bestEmpty_2 0 rfl rfl)
theorem dX6_bestEmpty_49 : decode cX6_bestEmpty 49 = .ok (.iload 4, 2) := dk_21 4 (dk_at dksX6_bestEmpty_2 3 rfl rfl)
theorem dX6_bestEmpty_51 : decode cX6_bestEmpty 51 = .ok (.istore_n 2, 1) := dk_61 (dk_at dksX6_bestEmpty_2 5 rfl rfl)
theorem dX6_bestEmpty_52 : decode cX6_bestEmpty 52 = .ok (.iload_n 3, 1) := dk_29 (dk_at dksX6_bestEmpty_2 6 rfl rfl)
theorem dX6_bestEmpty_53 : decode cX6_bestEmpty 53 = .ok (.iload 5, 2) := dk_21 5 (dk_at dksX6_bestEmpty_2 7 rfl rfl)
theorem dX6_bestEmpty_55 : decode cX6_bestEmpty 55 = .ok (.invokestatic 113, 3) := dk_184 0 113 (dk_at dksX6_bestEmpty_2 9 rfl rfl)
theorem dX6_bestEmpty_58 : decode cX6_bestEmpty 58 = .ok (.istore_n 3, 1) := dk_62 (dk_at dksX6_bestEmpty_2 12 rfl rfl)
theorem dX6_bestEmpty_59 : decode cX6_bestEmpty 59 = .ok (.iinc 4 1, 3) := dk_132 4 1 (dk_at dksX6_bestEmpty_2 13 rfl rfl)
theorem dX6_bestEmpty_62 : decode cX6_bestEmpty 62 = .ok (.goto (-39), 3) := dk_167 255 217 (dk_at dksX6_bestEmpty_2 16 rfl rfl)
theorem dX6_bestEmpty_65 : decode cX6_bestEmpty 65 = .ok (.iload_n 2, 1) := dk_28 (dk_at dksX6_bestEmpty_2 19 rfl rfl)
theorem dX6_bestEmpty_66 : decode cX6_bestEmpty 66 = .ok (.ireturn, 1) := dk_172 (dk_at dksX6_bestEmpty_2 20 rfl rfl)
abbrev cX6_missortsIf : ByteArray := prog_19_method_106_code
def yX6_missortsIf : MethodName := ⟨RX6, "missortsIf", "(III)I"⟩
def dkwX6_missortsIf_3 : List UInt8 := [182, 1, 31, 54, 6, 42, 42, 180, 0, 7, 16, 10, 46, 21, 4, 100, 182, 1, 110, 172]
abbrev dktX6_missortsIf_3 : List UInt8 := dkwX6_missortsIf_3 ++ []
def dkwX6_missortsIf_2 : List UInt8 := [180, 0, 7, 16, 10, 46, 54, 4, 42, 182, 1, 107, 42, 27, 28, 182, 1, 46, 54, 5, 42, 29]
abbrev dktX6_missortsIf_2 : List UInt8 := dkwX6_missortsIf_2 ++ dktX6_missortsIf_3
def dkwX6_missortsIf_1 : List UInt8 := [167, 0, 4, 3, 5, 182, 1, 58, 154, 0, 12, 42, 29, 5, 182, 1, 113, 153, 0, 5, 3, 172, 42]
abbrev dktX6_missortsIf_1 : List UInt8 := dkwX6_missortsIf_1 ++ dktX6_missortsIf_2
def dkwX6_missortsIf_0 : List UInt8 := [42, 3, 181, 0, 55, 42, 27, 182, 1, 77, 154, 0, 34, 42, 28, 3, 6, 184, 0, 152, 154, 0, 7, 4]
abbrev dktX6_missortsIf_0 : List UInt8 := dkwX6_missortsIf_0 ++ dktX6_missortsIf_1
theorem dksX6_missortsIf_0 : cX6_missortsIf.data.toList.drop 0 = dktX6_missortsIf_0 := by decide +kernel
theorem dksX6_missortsIf_1 : cX6_missortsIf.data.toList.drop 24 = dktX6_missortsIf_1 := dk_seg dksX6_missortsIf_0 24 rfl rfl
theorem dksX6_missortsIf_2 : cX6_missortsIf.data.toList.drop 47 = dktX6_missortsIf_2 := dk_seg dksX6_missortsIf_1 23 rfl rfl
theorem dksX6_missortsIf_3 : cX6_missortsIf.data.toList.drop 69 = dktX6_missortsIf_3 := dk_seg dksX6_missortsIf_2 22 rfl rfl
theorem dX6_missortsIf_0 : decode cX6_missortsIf 0 = .ok (.aload_n 0, 1) := dk_42 (dk_at dksX6_missortsIf_0 0 rfl rfl)
theorem dX6_missortsIf_1 : decode cX6_missortsIf 1 = .ok (.iconst 0, 1) := dk_3 (dk_at dksX6_missortsIf_0 1 rfl rfl)
theorem dX6_missortsIf_2 : decode cX6_missortsIf 2 = .ok (.putfield 55, 3) := dk_181 0 55 (dk_at dksX6_missortsIf_0 2 rfl rfl)
theorem dX6_missortsIf_5 : decode cX6_missortsIf 5 = .ok (.aload_n 0, 1) := dk_42 (dk_at dksX6_missortsIf_0 5 rfl rfl)
theorem dX6_missortsIf_6 : decode cX6_missortsIf 6 = .ok (.iload_n 1, 1) := dk_27 (dk_at dksX6_missortsIf_0 6 rfl rfl)
theorem dX6_missortsIf_7 : decode cX6_missortsIf 7 = .ok (.invokevirtual 333, 3) := dk_182 1 77 (dk_at dksX6_missortsIf_0 7 rfl rfl)
theorem dX6_missortsIf_10 : decode cX6_missortsIf 10 = .ok (.ifCond .ne 34, 3) := dk_154 0 34 (dk_at dksX6_missortsIf_0 10 rfl rfl)
theorem dX6_missortsIf_13 : decode cX6_missortsIf 13 = .ok (.aload_n 0, 1) := dk_42 (dk_at dksX6_missortsIf_0 13 rfl rfl)
theorem dX6_missortsIf_14 : decode cX6_missortsIf 14 = .ok (.iload_n 2, 1) := dk_28 (dk_at dksX6_missortsIf_0 14 rfl rfl)
theorem dX6_missortsIf_15 : decode cX6_missortsIf 15 = .ok (.iconst 0, 1) := dk_3 (dk_at dksX6_missortsIf_0 15 rfl rfl)
theorem dX6_missortsIf_16 : decode cX6_missortsIf 16 = .ok (.iconst 3, 1) := dk_6 (dk_at dksX6_missortsIf_0 16 rfl rfl)
theorem dX6_missortsIf_17 : decode cX6_missortsIf 17 = .ok (.invokestatic 152, 3) := dk_184 0 152 (dk_at dksX6_missortsIf_0 17 rfl rfl)
theorem dX6_missortsIf_20 : decode cX6_missortsIf 20 = .ok (.ifCond .ne 7, 3) := dk_154 0 7 (dk_at dksX6_missortsIf_0 20 rfl rfl)
theorem dX6_missortsIf_23 : decode cX6_missortsIf 23 = .ok (.iconst 1, 1) := dk_4 (dk_at dksX6_missortsIf_0 23 rfl rfl)
theorem dX6_missortsIf_24 : decode cX6_missortsIf 24 = .ok (.goto 4, 3) := dk_167 0 4 (dk_at dksX6_missortsIf_1 0 rfl rfl)
theorem dX6_missortsIf_27 : decode cX6_missortsIf 27 = .ok (.iconst 0, 1) := dk_3 (dk_at dksX6_missortsIf_1 3 rfl rfl)
theorem dX6_missortsIf_28 : decode cX6_missortsIf 28 = .ok (.iconst 2, 1) := dk_5 (dk_at dksX6_missortsIf_1 4 rfl rfl)
theorem dX6_missortsIf_29 : decode cX6_missortsIf 29 = .ok (.invokevirtual 314, 3) := dk_182 1 58 (dk_at dksX6_missortsIf_1 5 rfl rfl)
theorem dX6_missortsIf_32 : decode cX6_missortsIf 32 = .ok (.ifCond .ne 12, 3) := dk_154 0 12 (dk_at dksX6_missortsIf_1 8 rfl rfl)
theorem dX6_missortsIf_35 : decode cX6_missortsIf 35 = .ok (.aload_n 0, 1) := dk_42 (dk_at dksX6_missortsIf_1 11 rfl rfl)
theorem dX6_missortsIf_36 : decode cX6_missortsIf 36 = .ok (.iload_n 3, 1) := dk_29 (dk_at dksX6_missortsIf_1 12 rfl rfl)
theorem dX6_missortsIf_37 : decode cX6_missortsIf 37 = .ok (.iconst 2, 1) := dk_5 (dk_at dksX6_missortsIf_1 13 rfl rfl)
theorem dX6_missortsIf_38 : decode cX6_missortsIf 38 = .ok (.invokevirtual 369, 3) := dk_182 1 113 (dk_at dksX6_missortsIf_1 14 rfl rfl)
theorem dX6_missortsIf_41 : decode cX6_missortsIf 41 = .ok (.ifCond .eq 5, 3) := dk_153 0 5 (dk_at dksX6_missortsIf_1 17 rfl rfl)
theorem dX6_missortsIf_44 : decode cX6_missortsIf 44 = .ok (.iconst 0, 1) := dk_3 (dk_at dksX6_missortsIf_1 20 rfl rfl)
theorem dX6_missortsIf_45 : decode cX6_missortsIf 45 = .ok (.ireturn, 1) := dk_172 (dk_at dksX6_missortsIf_1 21 rfl rfl)
theorem dX6_missortsIf_46 : decode cX6_missortsIf 46 = .ok (.aload_n 0, 1) := dk_42 (dk_at dksX6_missortsIf_1 22 rfl rfl)
theorem dX6_missortsIf_47 : decode cX6_missortsIf 47 = .ok (.getfield 7, 3) := dk_180 0 7 (dk_at dksX6_missortsIf_2 0 rfl rfl)
theorem dX6_missortsIf_50 : decode cX6_missortsIf 50 = .ok (.bipush 10, 2) := dk_16 10 (dk_at dksX6_missortsIf_2 3 rfl rfl)
theorem dX6_missortsIf_52 : decode cX6_missortsIf 52 = .ok (.iaload, 1) := dk_46 (dk_at dksX6_missortsIf_2 5 rfl rfl)
theorem dX6_missortsIf_53 : decode cX6_missortsIf 53 = .ok (.istore 4, 2) := dk_54 4 (dk_at dksX6_missortsIf_2 6 rfl rfl)
theorem dX6_missortsIf_55 : decode cX6_missortsIf 55 = .ok (.aload_n 0, 1) := dk_42 (dk_at dksX6_missortsIf_2 8 rfl rfl)
theorem dX6_missortsIf_56 : decode cX6_missortsIf 56 = .ok (.invokevirtual 363, 3) := dk_182 1 107 (dk_at dksX6_missortsIf_2 9 rfl rfl)
theorem dX6_missortsIf_59 : decode cX6_missortsIf 59 = .ok (.aload_n 0, 1) := dk_42 (dk_at dksX6_missortsIf_2 12 rfl rfl)
theorem dX6_missortsIf_60 : decode cX6_missortsIf 60 = .ok (.iload_n 1, 1) := dk_27 (dk_at dksX6_missortsIf_2 13 rfl rfl)
theorem dX6_missortsIf_61 : decode cX6_missortsIf 61 = .ok (.iload_n 2, 1) := dk_28 (dk_at dksX6_missortsIf_2 14 rfl rfl)
theorem dX6_missortsIf_62 : decode cX6_missortsIf 62 = .ok (.invokevirtual 302, 3) := dk_182 1 46 (dk_at dksX6_missortsIf_2 15 rfl rfl)
theorem dX6_missortsIf_65 : decode cX6_missortsIf 65 = .ok (.istore 5, 2) := dk_54 5 (dk_at dksX6_missortsIf_2 18 rfl rfl)
theorem dX6_missortsIf_67 : decode cX6_missortsIf 67 = .ok (.aload_n 0, 1) := dk_42 (dk_at dksX6_missortsIf_2 20 rfl rfl)
theorem dX6_missortsIf_68 : decode cX6_missortsIf 68 = .ok (.iload_n 3, 1) := dk_29 (dk_at dksX6_missortsIf_2 21 rfl rfl)
theorem dX6_missortsIf_69 : decode cX6_missortsIf 69 = .ok (.invokevirtual 287, 3) := dk_182 1 31 (dk_at dksX6_missortsIf_3 0 rfl rfl)
theorem dX6_missortsIf_72 : decode cX6_missortsIf 72 = .ok (.istore 6, 2) := dk_54 6 (dk_at dksX6_missortsIf_3 3 rfl rfl)
theorem dX6_missortsIf_74 : decode cX6_missortsIf 74 = .ok (.aload_n 0, 1) := dk_42 (dk_at dksX6_missortsIf_3 5 rfl rfl)
theorem dX6_missortsIf_75 : decode cX6_missortsIf 75 = .ok (.aload_n 0, 1) := dk_42 (dk_at dksX6_missortsIf_3 6 rfl rfl)
theorem dX6_missortsIf_76 : decode cX6_missortsIf 76 = .ok (.getfield 7, 3) := dk_180 0 7 (dk_at dksX6_missortsIf_3 7 rfl rfl)
theorem dX6_missortsIf_79 : decode cX6_missortsIf 79 = .ok (.bipush 10, 2) := dk_16 10 (dk_at dksX6_missortsIf_3 10 rfl rfl)
theorem dX6_missortsIf_81 : decode cX6_missortsIf 81 = .ok (.iaload, 1) := dk_46 (dk_at dksX6_missortsIf_3 12 rfl rfl)
theorem dX6_missortsIf_82 : decode cX6_missortsIf 82 = .ok (.iload 4, 2) := dk_21 4 (dk_at dksX6_missortsIf_3 13 rfl rfl)
theorem dX6_missortsIf_84 : decode cX6_missortsIf 84 = .ok (.isub, 1) := dk_100 (dk_at dksX6_missortsIf_3 15 rfl rfl)
theorem dX6_missortsIf_85 : decode cX6_missortsIf 85 = .ok (.invokevirtual 366, 3) := dk_182 1 110 (dk_at dksX6_missortsIf_3 16 rfl rfl)
theorem dX6_missortsIf_88 : decode cX6_missortsIf 88 = .ok (.ireturn, 1) := dk_172 (dk_at dksX6_missortsIf_3 19 rfl rfl)
abbrev cX6_clearIn : ByteArray := prog_19_method_107_code
def yX6_clearIn : MethodName := ⟨RX6, "clearIn", "()I"⟩
def dkwX6_clearIn_2 : List UInt8 := [167, 0, 4, 27, 182, 1, 110, 172]
abbrev dktX6_clearIn_2 : List UInt8 := dkwX6_clearIn_2 ++ []
def dkwX6_clearIn_1 : List UInt8 := [158, 0, 13, 42, 182, 0, 136, 132, 1, 1, 167, 255, 234, 42, 42, 3, 182, 0, 133, 158, 0, 7, 2]
abbrev dktX6_clearIn_1 : List UInt8 := dkwX6_clearIn_1 ++ dktX6_clearIn_2
def dkwX6_clearIn_0 : List UInt8 := [42, 3, 181, 0, 55, 42, 182, 1, 107, 3, 60, 27, 17, 1, 244, 162, 0, 21, 42, 3, 182, 0, 133]
abbrev dktX6_clearIn_0 : List UInt8 := dkwX6_clearIn_0 ++ dktX6_clearIn_1
theorem dksX6_clearIn_0 : cX6_clearIn.data.toList.drop 0 = dktX6_clearIn_0 := by decide +kernel
theorem dksX6_clearIn_1 : cX6_clearIn.data.toList.drop 23 = dktX6_clearIn_1 := dk_seg dksX6_clearIn_0 23 rfl rfl
theorem dksX6_clearIn_2 : cX6_clearIn.data.toList.drop 46 = dktX6_clearIn_2 := dk_seg dksX6_clearIn_1 23 rfl rfl
theorem dX6_clearIn_0 : decode cX6_clearIn 0 = .ok (.aload_n 0, 1) := dk_42 (dk_at dksX6_clearIn_0 0 rfl rfl)
theorem dX6_clearIn_1 : decode cX6_clearIn 1 = .ok (.iconst 0, 1) := dk_3 (dk_at dksX6_clearIn_0 1 rfl rfl)
theorem dX6_clearIn_2 : decode cX6_clearIn 2 = .ok (.putfield 55, 3) := dk_181 0 55 (dk_at dksX6_clearIn_0 2 rfl rfl)
theorem dX6_clearIn_5 : decode cX6_clearIn 5 = .ok (.aload_n 0, 1) := dk_42 (dk_at dksX6_clearIn_0 5 rfl rfl)
theorem dX6_clearIn_6 : decode cX6_clearIn 6 = .ok (.invokevirtual 363, 3) := dk_182 1 107 (dk_at dksX6_clearIn_0 6 rfl rfl)
theorem dX6_clearIn_9 : decode cX6_clearIn 9 = .ok (.iconst 0, 1) := dk_3 (dk_at dksX6_clearIn_0 9 rfl rfl)
theorem dX6_clearIn_10 : decode cX6_clearIn 10 = .ok (.istore_n 1, 1) := dk_60 (dk_at dksX6_clearIn_0 10 rfl rfl)
theorem dX6_clearIn_11 : decode cX6_clearIn 11 = .ok (.iload_n 1, 1) := dk_27 (dk_at dksX6_clearIn_0 11 rfl rfl)
theorem dX6_clearIn_12 : decode cX6_clearIn 12 = .ok (.sipush 500, 3) := dk_17 1 244 (dk_at dksX6_clearIn_0 12 rfl rfl)
theorem dX6_clearIn_15 : decode cX6_clearIn 15 = .ok (.if_icmp .ge 21, 3) := dk_162 0 21 (dk_at dksX6_clearIn_0 15 rfl rfl)
theorem dX6_clearIn_18 : decode cX6_clearIn 18 = .ok (.aload_n 0, 1) := dk_42 (dk_at dksX6_clearIn_0 18 rfl rfl)
theorem dX6_clearIn_19 : decode cX6_clearIn 19 = .ok (.iconst 0, 1) := dk_3 (dk_at dksX6_clearIn_0 19 rfl rfl)
theorem dX6_clearIn_20 : decode cX6_clearIn 20 = .ok (.invokevirtual 133, 3) := dk_182 0 133 (dk_at dksX6_clearIn_0 20 rfl rfl)
theorem dX6_clearIn_23 : decode cX6_clearIn 23 = .ok (.ifCond .le 13, 3) := dk_158 0 13 (dk_at dksX6_clearIn_1 0 rfl rfl)
theorem dX6_clearIn_26 : decode cX6_clearIn 26 = .ok (.aload_n 0, 1) := dk_42 (dk_at dksX6_clearIn_1 3 rfl rfl)
theorem dX6_clearIn_27 : decode cX6_clearIn 27 = .ok (.invokevirtual 136, 3) := dk_182 0 136 (dk_at dksX6_clearIn_1 4 rfl rfl)
theorem dX6_clearIn_30 : decode cX6_clearIn 30 = .ok (.iinc 1 1, 3) := dk_132 1 1 (dk_at dksX6_clearIn_1 7 rfl rfl)
theorem dX6_clearIn_33 : decode cX6_clearIn 33 = .ok (.goto (-22), 3) := dk_167 255 234 (dk_at dksX6_clearIn_1 10 rfl rfl)
theorem dX6_clearIn_36 : decode cX6_clearIn 36 = .ok (.aload_n 0, 1) := dk_42 (dk_at dksX6_clearIn_1 13 rfl rfl)
theorem dX6_clearIn_37 : decode cX6_clearIn 37 = .ok (.aload_n 0, 1) := dk_42 (dk_at dksX6_clearIn_1 14 rfl rfl)
theorem dX6_clearIn_38 : decode cX6_clearIn 38 = .ok (.iconst 0, 1) := dk_3 (dk_at dksX6_clearIn_1 15 rfl rfl)
theorem dX6_clearIn_39 : decode cX6_clearIn 39 = .ok (.invokevirtual 133, 3) := dk_182 0 133 (dk_at dksX6_clearIn_1 16 rfl rfl)
theorem dX6_clearIn_42 : decode cX6_clearIn 42 = .ok (.ifCond .le 7, 3) := dk_158 0 7 (dk_at dksX6_clearIn_1 19 rfl rfl)
theorem dX6_clearIn_45 : decode cX6_clearIn 45 = .ok (.iconst (-1), 1) := dk_2 (dk_at dksX6_clearIn_1 22 rfl rfl)
theorem dX6_clearIn_46 : decode cX6_clearIn 46 = .ok (.goto 4, 3) := dk_167 0 4 (dk_at dksX6_clearIn_2 0 rfl rfl)
theorem dX6_clearIn_49 : decode cX6_clearIn 49 = .ok (.iload_n 1, 1) := dk_27 (dk_at dksX6_clearIn_2 3 rfl rfl)
theorem dX6_clearIn_50 : decode cX6_clearIn 50 = .ok (.invokevirtual 366, 3) := dk_182 1 110 (dk_at dksX6_clearIn_2 4 rfl rfl)
theorem dX6_clearIn_53 : decode cX6_clearIn 53 = .ok (.ireturn, 1) := dk_172 (dk_at dksX6_clearIn_2 7 rfl rfl)
abbrev cX6_freeIn : ByteArray := prog_19_method_108_code
def yX6_freeIn : MethodName := ⟨RX6, "freeIn", "()I"⟩
def dkwX6_freeIn_2 : List UInt8 := [4, 46, 182, 0, 101, 2, 159, 0, 7, 2, 167, 0, 4, 27, 182, 1, 110, 172]
abbrev dktX6_freeIn_2 : List UInt8 := dkwX6_freeIn_2 ++ []
def dkwX6_freeIn_1 : List UInt8 := [46, 182, 0, 101, 2, 159, 0, 13, 42, 182, 0, 136, 132, 1, 1, 167, 255, 228, 42, 42, 42, 180, 0, 7]
abbrev dktX6_freeIn_1 : List UInt8 := dkwX6_freeIn_1 ++ dktX6_freeIn_2
def dkwX6_freeIn_0 : List UInt8 := [42, 3, 181, 0, 55, 42, 182, 1, 107, 3, 60, 27, 17, 1, 244, 162, 0, 27, 42, 42, 180, 0, 7, 4]
abbrev dktX6_freeIn_0 : List UInt8 := dkwX6_freeIn_0 ++ dktX6_freeIn_1
theorem dksX6_freeIn_0 : cX6_freeIn.data.toList.drop 0 = dktX6_freeIn_0 := by decide +kernel
theorem dksX6_freeIn_1 : cX6_freeIn.data.toList.drop 24 = dktX6_freeIn_1 := dk_seg dksX6_freeIn_0 24 rfl rfl
theorem dksX6_freeIn_2 : cX6_freeIn.data.toList.drop 48 = dktX6_freeIn_2 := dk_seg dksX6_freeIn_1 24 rfl rfl
theorem dX6_freeIn_0 : decode cX6_freeIn 0 = .ok (.aload_n 0, 1) := dk_42 (dk_at dksX6_freeIn_0 0 rfl rfl)
theorem dX6_freeIn_1 : decode cX6_freeIn 1 = .ok (.iconst 0, 1) := dk_3 (dk_at dksX6_freeIn_0 1 rfl rfl)
theorem dX6_freeIn_2 : decode cX6_freeIn 2 = .ok (.putfield 55, 3) := dk_181 0 55 (dk_at dksX6_freeIn_0 2 rfl rfl)
theorem dX6_freeIn_5 : decode cX6_freeIn 5 = .ok (.aload_n 0, 1) := dk_42 (dk_at dksX6_freeIn_0 5 rfl rfl)
theorem dX6_freeIn_6 : decode cX6_freeIn 6 = .ok (.invokevirtual 363, 3) := dk_182 1 107 (dk_at dksX6_freeIn_0 6 rfl rfl)
theorem dX6_freeIn_9 : decode cX6_freeIn 9 = .ok (.iconst 0, 1) := dk_3 (dk_at dksX6_freeIn_0 9 rfl rfl)
theorem dX6_freeIn_10 : decode cX6_freeIn 10 = .ok (.istore_n 1, 1) := dk_60 (dk_at dksX6_freeIn_0 10 rfl rfl)
theorem dX6_freeIn_11 : decode cX6_freeIn 11 = .ok (.iload_n 1, 1) := dk_27 (dk_at dksX6_freeIn_0 11 rfl rfl)
theorem dX6_freeIn_12 : decode cX6_freeIn 12 = .ok (.sipush 500, 3) := dk_17 1 244 (dk_at dksX6_freeIn_0 12 rfl rfl)
theorem dX6_freeIn_15 : decode cX6_freeIn 15 = .ok (.if_icmp .ge 27, 3) := dk_162 0 27 (dk_at dksX6_freeIn_0 15 rfl rfl)
theorem dX6_freeIn_18 : decode cX6_freeIn 18 = .ok (.aload_n 0, 1) := dk_42 (dk_at dksX6_freeIn_0 18 rfl rfl)
theorem dX6_freeIn_19 : decode cX6_freeIn 19 = .ok (.aload_n 0, 1) := dk_42 (dk_at dksX6_freeIn_0 19 rfl rfl)
theorem dX6_freeIn_20 : decode cX6_freeIn 20 = .ok (.getfield 7, 3) := dk_180 0 7 (dk_at dksX6_freeIn_0 20 rfl rfl)
theorem dX6_freeIn_23 : decode cX6_freeIn 23 = .ok (.iconst 1, 1) := dk_4 (dk_at dksX6_freeIn_0 23 rfl rfl)
theorem dX6_freeIn_24 : decode cX6_freeIn 24 = .ok (.iaload, 1) := dk_46 (dk_at dksX6_freeIn_1 0 rfl rfl)
theorem dX6_freeIn_25 : decode cX6_freeIn 25 = .ok (.invokevirtual 101, 3) := dk_182 0 101 (dk_at dksX6_freeIn_1 1 rfl rfl)
theorem dX6_freeIn_28 : decode cX6_freeIn 28 = .ok (.iconst (-1), 1) := dk_2 (dk_at dksX6_freeIn_1 4 rfl rfl)
theorem dX6_freeIn_29 : decode cX6_freeIn 29 = .ok (.if_icmp .eq 13, 3) := dk_159 0 13 (dk_at dksX6_freeIn_1 5 rfl rfl)
theorem dX6_freeIn_32 : decode cX6_freeIn 32 = .ok (.aload_n 0, 1) := dk_42 (dk_at dksX6_freeIn_1 8 rfl rfl)
theorem dX6_freeIn_33 : decode cX6_freeIn 33 = .ok (.invokevirtual 136, 3) := dk_182 0 136 (dk_at dksX6_freeIn_1 9 rfl rfl)
theorem dX6_freeIn_36 : decode cX6_freeIn 36 = .ok (.iinc 1 1, 3) := dk_132 1 1 (dk_at dksX6_freeIn_1 12 rfl rfl)
theorem dX6_freeIn_39 : decode cX6_freeIn 39 = .ok (.goto (-28), 3) := dk_167 255 228 (dk_at dksX6_freeIn_1 15 rfl rfl)
theorem dX6_freeIn_42 : decode cX6_freeIn 42 = .ok (.aload_n 0, 1) := dk_42 (dk_at dksX6_freeIn_1 18 rfl rfl)
theorem dX6_freeIn_43 : decode cX6_freeIn 43 = .ok (.aload_n 0, 1) := dk_42 (dk_at dksX6_freeIn_1 19 rfl rfl)
theorem dX6_freeIn_44 : decode cX6_freeIn 44 = .ok (.aload_n 0, 1) := dk_42 (dk_at dksX6_freeIn_1 20 rfl rfl)
theorem dX6_freeIn_45 : decode cX6_freeIn 45 = .ok (.getfield 7, 3) := dk_180 0 7 (dk_at dksX6_freeIn_1 21 rfl rfl)
theorem dX6_freeIn_48 : decode cX6_freeIn 48 = .ok (.iconst 1, 1) := dk_4 (dk_at dksX6_freeIn_2 0 rfl rfl)
theorem dX6_freeIn_49 : decode cX6_freeIn 49 = .ok (.iaload, 1) := dk_46 (dk_at dksX6_freeIn_2 1 rfl rfl)
theorem dX6_freeIn_50 : decode cX6_freeIn 50 = .ok (.invokevirtual 101, 3) := dk_182 0 101 (dk_at dksX6_freeIn_2 2 rfl rfl)
theorem dX6_freeIn_53 : decode cX6_freeIn 53 = .ok (.iconst (-1), 1) := dk_2 (dk_at dksX6_freeIn_2 5 rfl rfl)
theorem dX6_freeIn_54 : decode cX6_freeIn 54 = .ok (.if_icmp .eq 7, 3) := dk_159 0 7 (dk_at dksX6_freeIn_2 6 rfl rfl)
theorem dX6_freeIn_57 : decode cX6_freeIn 57 = .ok (.iconst (-1), 1) := dk_2 (dk_at dksX6_freeIn_2 9 rfl rfl)
theorem dX6_freeIn_58 : decode cX6_freeIn 58 = .ok (.goto 4, 3) := dk_167 0 4 (dk_at dksX6_freeIn_2 10 rfl rfl)
theorem dX6_freeIn_61 : decode cX6_freeIn 61 = .ok (.iload_n 1, 1) := dk_27 (dk_at dksX6_freeIn_2 13 rfl rfl)
theorem dX6_freeIn_62 : decode cX6_freeIn 62 = .ok (.invokevirtual 366, 3) := dk_182 1 110 (dk_at dksX6_freeIn_2 14 rfl rfl)
theorem dX6_freeIn_65 : decode cX6_freeIn 65 = .ok (.ireturn, 1) := dk_172 (dk_at dksX6_freeIn_2 17 rfl rfl)
abbrev cX6_agree : ByteArray := prog_19_method_111_code
def yX6_agree : MethodName := ⟨RX6, "agree", "()Z"⟩
def dkwX6_agree_7 : List UInt8 := [180, 0, 7, 16, 14, 46, 42, 6, 182, 0, 133, 160, 0, 7, 4, 167, 0, 4, 3, 172]
abbrev dktX6_agree_7 : List UInt8 := dkwX6_agree_7 ++ []
def dkwX6_agree_6 : List UInt8 := [5, 182, 0, 133, 96, 160, 0, 37, 42, 180, 0, 7, 16, 17, 46, 42, 5, 182, 0, 133, 160, 0, 22, 42]
abbrev dktX6_agree_6 : List UInt8 := dkwX6_agree_6 ++ dktX6_agree_7
def dkwX6_agree_5 : List UInt8 := [180, 0, 7, 16, 10, 46, 96, 160, 0, 12, 28, 42, 4, 182, 0, 133, 159, 0, 5, 3, 172, 27, 28, 42]
abbrev dktX6_agree_5 : List UInt8 := dkwX6_agree_5 ++ dktX6_agree_6
def dkwX6_agree_4 : List UInt8 := [180, 0, 7, 16, 8, 46, 42, 180, 0, 7, 7, 46, 160, 0, 31, 27, 42, 180, 0, 7, 16, 9, 46, 42]
abbrev dktX6_agree_4 : List UInt8 := dkwX6_agree_4 ++ dktX6_agree_5
def dkwX6_agree_3 : List UInt8 := [16, 7, 182, 0, 78, 96, 60, 28, 42, 29, 16, 6, 182, 0, 78, 96, 61, 132, 3, 1, 167, 255, 205, 42]
abbrev dktX6_agree_3 : List UInt8 := dkwX6_agree_3 ++ dktX6_agree_4
def dkwX6_agree_2 : List UInt8 := [162, 0, 47, 42, 29, 16, 6, 182, 0, 78, 42, 29, 4, 182, 0, 78, 164, 0, 5, 3, 172, 27, 42, 29]
abbrev dktX6_agree_2 : List UInt8 := dkwX6_agree_2 ++ dktX6_agree_3
def dkwX6_agree_1 : List UInt8 := [154, 0, 5, 3, 172, 132, 1, 1, 167, 255, 233, 3, 60, 3, 61, 3, 62, 29, 42, 180, 0, 7, 6, 46]
abbrev dktX6_agree_1 : List UInt8 := dkwX6_agree_1 ++ dktX6_agree_2
def dkwX6_agree_0 : List UInt8 := [42, 3, 181, 0, 55, 3, 60, 27, 42, 180, 0, 7, 7, 46, 162, 0, 19, 42, 27, 182, 1, 128]
abbrev dktX6_agree_0 : List UInt8 := dkwX6_agree_0 ++ dktX6_agree_1
theorem dksX6_agree_0 : cX6_agree.data.toList.drop 0 = dktX6_agree_0 := by decide +kernel
theorem dksX6_agree_1 : cX6_agree.data.toList.drop 22 = dktX6_agree_1 := dk_seg dksX6_agree_0 22 rfl rfl
theorem dksX6_agree_2 : cX6_agree.data.toList.drop 46 = dktX6_agree_2 := dk_seg dksX6_agree_1 24 rfl rfl
theorem dksX6_agree_3 : cX6_agree.data.toList.drop 70 = dktX6_agree_3 := dk_seg dksX6_agree_2 24 rfl rfl
theorem dksX6_agree_4 : cX6_agree.data.toList.drop 94 = dktX6_agree_4 := dk_seg dksX6_agree_3 24 rfl rfl
theorem dksX6_agree_5 : cX6_agree.data.toList.drop 118 = dktX6_agree_5 := dk_seg dksX6_agree_4 24 rfl rfl
theorem dksX6_agree_6 : cX6_agree.data.toList.drop 142 = dktX6_agree_6 := dk_seg dksX6_agree_5 24 rfl rfl
theorem dksX6_agree_7 : cX6_agree.data.toList.drop 166 = dktX6_agree_7 := dk_seg dksX6_agree_6 24 rfl rfl
theorem dX6_agree_0 : decode cX6_agree 0 = .ok (.aload_n 0, 1) := dk_42 (dk_at dksX6_agree_0 0 rfl rfl)
theorem dX6_agree_1 : decode cX6_agree 1 = .ok (.iconst 0, 1) := dk_3 (dk_at dksX6_agree_0 1 rfl rfl)
theorem dX6_agree_2 : decode cX6_agree 2 = .ok (.putfield 55, 3) := dk_181 0 55 (dk_at dksX6_agree_0 2 rfl rfl)
theorem dX6_agree_5 : decode cX6_agree 5 = .ok (.iconst 0, 1) := dk_3 (dk_at dksX6_agree_0 5 rfl rfl)
theorem dX6_agree_6 : decode cX6_agree 6 = .ok (.istore_n 1, 1) := dk_60 (dk_at dksX6_agree_0 6 rfl rfl)
theorem dX6_agree_7 : decode cX6_agree 7 = .ok (.iload_n 1, 1) := dk_27 (dk_at dksX6_agree_0 7 rfl rfl)
theorem dX6_agree_8 : decode cX6_agree 8 = .ok (.aload_n 0, 1) := dk_42 (dk_at dksX6_agree_0 8 rfl rfl)
theorem dX6_agree_9 : decode cX6_agree 9 = .ok (.getfield 7, 3) := dk_180 0 7 (dk_at dksX6_agree_0 9 rfl rfl)
theorem dX6_agree_12 : decode cX6_agree 12 = .ok (.iconst 4, 1) := dk_7 (dk_at dksX6_agree_0 12 rfl rfl)
theorem dX6_agree_13 : decode cX6_agree 13 = .ok (.iaload, 1) := dk_46 (dk_at dksX6_agree_0 13 rfl rfl)
theorem dX6_agree_14 : decode cX6_agree 14 = .ok (.if_icmp .ge 19, 3) := dk_162 0 19 (dk_at dksX6_agree_0 14 rfl rfl)
theorem dX6_agree_17 : decode cX6_agree 17 = .ok (.aload_n 0, 1) := dk_42 (dk_at dksX6_agree_0 17 rfl rfl)
theorem dX6_agree_18 : decode cX6_agree 18 = .ok (.iload_n 1, 1) := dk_27 (dk_at dksX6_agree_0 18 rfl rfl)
theorem dX6_agree_19 : decode cX6_agree 19 = .ok (.invokevirtual 384, 3) := dk_182 1 128 (dk_at dksX6_agree_0 19 rfl rfl)
theorem dX6_agree_22 : decode cX6_agree 22 = .ok (.ifCond .ne 5, 3) := dk_154 0 5 (dk_at dksX6_agree_1 0 rfl rfl)
theorem dX6_agree_25 : decode cX6_agree 25 = .ok (.iconst 0, 1) := dk_3 (dk_at dksX6_agree_1 3 rfl rfl)
theorem dX6_agree_26 : decode cX6_agree 26 = .ok (.ireturn, 1) := dk_172 (dk_at dksX6_agree_1 4 rfl rfl)
theorem dX6_agree_27 : decode cX6_agree 27 = .ok (.iinc 1 1, 3) := dk_132 1 1 (dk_at dksX6_agree_1 5 rfl rfl)
theorem dX6_agree_30 : decode cX6_agree 30 = .ok (.goto (-23), 3) := dk_167 255 233 (dk_at dksX6_agree_1 8 rfl rfl)
theorem dX6_agree_33 : decode cX6_agree 33 = .ok (.iconst 0, 1) := dk_3 (dk_at dksX6_agree_1 11 rfl rfl)
theorem dX6_agree_34 : decode cX6_agree 34 = .ok (.istore_n 1, 1) := dk_60 (dk_at dksX6_agree_1 12 rfl rfl)
theorem dX6_agree_35 : decode cX6_agree 35 = .ok (.iconst 0, 1) := dk_3 (dk_at dksX6_agree_1 13 rfl rfl)
theorem dX6_agree_36 : decode cX6_agree 36 = .ok (.istore_n 2, 1) := dk_61 (dk_at dksX6_agree_1 14 rfl rfl)
theorem dX6_agree_37 : decode cX6_agree 37 = .ok (.iconst 0, 1) := dk_3 (dk_at dksX6_agree_1 15 rfl rfl)
theorem dX6_agree_38 : decode cX6_agree 38 = .ok (.istore_n 3, 1) := dk_62 (dk_at dksX6_agree_1 16 rfl rfl)
theorem dX6_agree_39 : decode cX6_agree 39 = .ok (.iload_n 3, 1) := dk_29 (dk_at dksX6_agree_1 17 rfl rfl)
theorem dX6_agree_40 : decode cX6_agree 40 = .ok (.aload_n 0, 1) := dk_42 (dk_at dksX6_agree_1 18 rfl rfl)
theorem dX6_agree_41 : decode cX6_agree 41 = .ok (.getfield 7, 3) := dk_180 0 7 (dk_at dksX6_agree_1 19 rfl rfl)
theorem dX6_agree_44 : decode cX6_agree 44 = .ok (.iconst 3, 1) := dk_6 (dk_at dksX6_agree_1 22 rfl rfl)
theorem dX6_agree_45 : decode cX6_agree 45 = .ok (.iaload, 1) := dk_46 (dk_at dksX6_agree_1 23 rfl rfl)
theorem dX6_agree_46 : decode cX6_agree 46 = .ok (.if_icmp .ge 47, 3) := dk_162 0 47 (dk_at dksX6_agree_2 0 rfl rfl)
theorem dX6_agree_49 : decode cX6_agree 49 = .ok (.aload_n 0, 1) := dk_42 (dk_at dksX6_agree_2 3 rfl rfl)
theorem dX6_agree_50 : decode cX6_agree 50 = .ok (.iload_n 3, 1) := dk_29 (dk_at dksX6_agree_2 4 rfl rfl)
theorem dX6_agree_51 : decode cX6_agree 51 = .ok (.bipush 6, 2) := dk_16 6 (dk_at dksX6_agree_2 5 rfl rfl)
theorem dX6_agree_53 : decode cX6_agree 53 = .ok (.invokevirtual 78, 3) := dk_182 0 78 (dk_at dksX6_agree_2 7 rfl rfl)
theorem dX6_agree_56 : decode cX6_agree 56 = .ok (.aload_n 0, 1) := dk_42 (dk_at dksX6_agree_2 10 rfl rfl)
theorem dX6_agree_57 : decode cX6_agree 57 = .ok (.iload_n 3, 1) := dk_29 (dk_at dksX6_agree_2 11 rfl rfl)
theorem dX6_agree_58 : decode cX6_agree 58 = .ok (.iconst 1, 1) := dk_4 (dk_at dksX6_agree_2 12 rfl rfl)
theorem dX6_agree_59 : decode cX6_agree 59 = .ok (.invokevirtual 78, 3) := dk_182 0 78 (dk_at dksX6_agree_2 13 rfl rfl)
theorem dX6_agree_62 : decode cX6_agree 62 = .ok (.if_icmp .le 5, 3) := dk_164 0 5 (dk_at dksX6_agree_2 16 rfl rfl)
theorem dX6_agree_65 : decode cX6_agree 65 = .ok (.iconst 0, 1) := dk_3 (dk_at dksX6_agree_2 19 rfl rfl)
theorem dX6_agree_66 : decode cX6_agree 66 = .ok (.ireturn, 1) := dk_172 (dk_at dksX6_agree_2 20 rfl rfl)
theorem dX6_agree_67 : decode cX6_agree 67 = .ok (.iload_n 1, 1) := dk_27 (dk_at dksX6_agree_2 21 rfl rfl)
theorem dX6_agree_68 : decode cX6_agree 68 = .ok (.aload_n 0, 1) := dk_42 (dk_at dksX6_agree_2 22 rfl rfl)
theorem dX6_agree_69 : decode cX6_agree 69 = .ok (.iload_n 3, 1) := dk_29 (dk_at dksX6_agree_2 23 rfl rfl)
theorem dX6_agree_70 : decode cX6_agree 70 = .ok (.bipush 7, 2) := dk_16 7 (dk_at dksX6_agree_3 0 rfl rfl)
theorem dX6_agree_72 : decode cX6_agree 72 = .ok (.invokevirtual 78, 3) := dk_182 0 78 (dk_at dksX6_agree_3 2 rfl rfl)
theorem dX6_agree_75 : decode cX6_agree 75 = .ok (.iadd, 1) := dk_96 (dk_at dksX6_agree_3 5 rfl rfl)
theorem dX6_agree_76 : decode cX6_agree 76 = .ok (.istore_n 1, 1) := dk_60 (dk_at dksX6_agree_3 6 rfl rfl)
theorem dX6_agree_77 : decode cX6_agree 77 = .ok (.iload_n 2, 1) := dk_28 (dk_at dksX6_agree_3 7 rfl rfl)
theorem dX6_agree_78 : decode cX6_agree 78 = .ok (.aload_n 0, 1) := dk_42 (dk_at dksX6_agree_3 8 rfl rfl)
theorem dX6_agree_79 : decode cX6_agree 79 = .ok (.iload_n 3, 1) := dk_29 (dk_at dksX6_agree_3 9 rfl rfl)
theorem dX6_agree_80 : decode cX6_agree 80 = .ok (.bipush 6, 2) := dk_16 6 (dk_at dksX6_agree_3 10 rfl rfl)
theorem dX6_agree_82 : decode cX6_agree 82 = .ok (.invokevirtual 78, 3) := dk_182 0 78 (dk_at dksX6_agree_3 12 rfl rfl)
theorem dX6_agree_85 : decode cX6_agree 85 = .ok (.iadd, 1) := dk_96 (dk_at dksX6_agree_3 15 rfl rfl)
theorem dX6_agree_86 : decode cX6_agree 86 = .ok (.istore_n 2, 1) := dk_61 (dk_at dksX6_agree_3 16 rfl rfl)
theorem dX6_agree_87 : decode cX6_agree 87 = .ok (.iinc 3 1, 3) := dk_132 3 1 (dk_at dksX6_agree_3 17 rfl rfl)
theorem dX6_agree_90 : decode cX6_agree 90 = .ok (.goto (-51), 3) := dk_167 255 205 (dk_at dksX6_agree_3 20 rfl rfl)
theorem dX6_agree_93 : decode cX6_agree 93 = .ok (.aload_n 0, 1) := dk_42 (dk_at dksX6_agree_3 23 rfl rfl)
theorem dX6_agree_94 : decode cX6_agree 94 = .ok (.getfield 7, 3) := dk_180 0 7 (dk_at dksX6_agree_4 0 rfl rfl)
theorem dX6_agree_97 : decode cX6_agree 97 = .ok (.bipush 8, 2) := dk_16 8 (dk_at dksX6_agree_4 3 rfl rfl)
theorem dX6_agree_99 : decode cX6_agree 99 = .ok (.iaload, 1) := dk_46 (dk_at dksX6_agree_4 5 rfl rfl)
theorem dX6_agree_100 : decode cX6_agree 100 = .ok (.aload_n 0, 1) := dk_42 (dk_at dksX6_agree_4 6 rfl rfl)
theorem dX6_agree_101 : decode cX6_agree 101 = .ok (.getfield 7, 3) := dk_180 0 7 (dk_at dksX6_agree_4 7 rfl rfl)
theorem dX6_agree_104 : decode cX6_agree 104 = .ok (.iconst 4, 1) := dk_7 (dk_at dksX6_agree_4 10 rfl rfl)
theorem dX6_agree_105 : decode cX6_agree 105 = .ok (.iaload, 1) := dk_46 (dk_at dksX6_agree_4 11 rfl rfl)
theorem dX6_agree_106 : decode cX6_agree 106 = .ok (.if_icmp .ne 31, 3) := dk_160 0 31 (dk_at dksX6_agree_4 12 rfl rfl)
theorem dX6_agree_109 : decode cX6_agree 109 = .ok (.iload_n 1, 1) := dk_27 (dk_at dksX6_agree_4 15 rfl rfl)
theorem dX6_agree_110 : decode cX6_agree 110 = .ok (.aload_n 0, 1) := dk_42 (dk_at dksX6_agree_4 16 rfl rfl)
theorem dX6_agree_111 : decode cX6_agree 111 = .ok (.getfield 7, 3) := dk_180 0 7 (dk_at dksX6_agree_4 17 rfl rfl)
theorem dX6_agree_114 : decode cX6_agree 114 = .ok (.bipush 9, 2) := dk_16 9 (dk_at dksX6_agree_4 20 rfl rfl)
theorem dX6_agree_116 : decode cX6_agree 116 = .ok (.iaload, 1) := dk_46 (dk_at dksX6_agree_4 22 rfl rfl)
theorem dX6_agree_117 : decode cX6_agree 117 = .ok (.aload_n 0, 1) := dk_42 (dk_at dksX6_agree_4 23 rfl rfl)
theorem dX6_agree_118 : decode cX6_agree 118 = .ok (.getfield 7, 3) := dk_180 0 7 (dk_at dksX6_agree_5 0 rfl rfl)
theorem dX6_agree_121 : decode cX6_agree 121 = .ok (.bipush 10, 2) := dk_16 10 (dk_at dksX6_agree_5 3 rfl rfl)
theorem dX6_agree_123 : decode cX6_agree 123 = .ok (.iaload, 1) := dk_46 (dk_at dksX6_agree_5 5 rfl rfl)
theorem dX6_agree_124 : decode cX6_agree 124 = .ok (.iadd, 1) := dk_96 (dk_at dksX6_agree_5 6 rfl rfl)
theorem dX6_agree_125 : decode cX6_agree 125 = .ok (.if_icmp .ne 12, 3) := dk_160 0 12 (dk_at dksX6_agree_5 7 rfl rfl)
theorem dX6_agree_128 : decode cX6_agree 128 = .ok (.iload_n 2, 1) := dk_28 (dk_at dksX6_agree_5 10 rfl rfl)
theorem dX6_agree_129 : decode cX6_agree 129 = .ok (.aload_n 0, 1) := dk_42 (dk_at dksX6_agree_5 11 rfl rfl)
theorem dX6_agree_130 : decode cX6_agree 130 = .ok (.iconst 1, 1) := dk_4 (dk_at dksX6_agree_5 12 rfl rfl)
theorem dX6_agree_131 : decode cX6_agree 131 = .ok (.invokevirtual 133, 3) := dk_182 0 133 (dk_at dksX6_agree_5 13 rfl rfl)
theorem dX6_agree_134 : decode cX6_agree 134 = .ok (.if_icmp .eq 5, 3) := dk_159 0 5 (dk_at dksX6_agree_5 16 rfl rfl)
theorem dX6_agree_137 : decode cX6_agree 137 = .ok (.iconst 0, 1) := dk_3 (dk_at dksX6_agree_5 19 rfl rfl)
theorem dX6_agree_138 : decode cX6_agree 138 = .ok (.ireturn, 1) := dk_172 (dk_at dksX6_agree_5 20 rfl rfl)
theorem dX6_agree_139 : decode cX6_agree 139 = .ok (.iload_n 1, 1) := dk_27 (dk_at dksX6_agree_5 21 rfl rfl)
theorem dX6_agree_140 : decode cX6_agree 140 = .ok (.iload_n 2, 1) := dk_28 (dk_at dksX6_agree_5 22 rfl rfl)
theorem dX6_agree_141 : decode cX6_agree 141 = .ok (.aload_n 0, 1) := dk_42 (dk_at dksX6_agree_5 23 rfl rfl)
theorem dX6_agree_142 : decode cX6_agree 142 = .ok (.iconst 2, 1) := dk_5 (dk_at dksX6_agree_6 0 rfl rfl)
theorem dX6_agree_143 : decode cX6_agree 143 = .ok (.invokevirtual 133, 3) := dk_182 0 133 (dk_at dksX6_agree_6 1 rfl rfl)
theorem dX6_agree_146 : decode cX6_agree 146 = .ok (.iadd, 1) := dk_96 (dk_at dksX6_agree_6 4 rfl rfl)
theorem dX6_agree_147 : decode cX6_agree 147 = .ok (.if_icmp .ne 37, 3) := dk_160 0 37 (dk_at dksX6_agree_6 5 rfl rfl)
theorem dX6_agree_150 : decode cX6_agree 150 = .ok (.aload_n 0, 1) := dk_42 (dk_at dksX6_agree_6 8 rfl rfl)
theorem dX6_agree_151 : decode cX6_agree 151 = .ok (.getfield 7, 3) := dk_180 0 7 (dk_at dksX6_agree_6 9 rfl rfl)
theorem dX6_agree_154 : decode cX6_agree 154 = .ok (.bipush 17, 2) := dk_16 17 (dk_at dksX6_agree_6 12 rfl rfl)
theorem dX6_agree_156 : decode cX6_agree 156 = .ok (.iaload, 1) := dk_46 (dk_at dksX6_agree_6 14 rfl rfl)
theorem dX6_agree_157 : decode cX6_agree 157 = .ok (.aload_n 0, 1) := dk_42 (dk_at dksX6_agree_6 15 rfl rfl)
theorem dX6_agree_158 : decode cX6_agree 158 = .ok (.iconst 2, 1) := dk_5 (dk_at dksX6_agree_6 16 rfl rfl)
theorem dX6_agree_159 : decode cX6_agree 159 = .ok (.invokevirtual 133, 3) := dk_182 0 133 (dk_at dksX6_agree_6 17 rfl rfl)
theorem dX6_agree_162 : decode cX6_agree 162 = .ok (.if_icmp .ne 22, 3) := dk_160 0 22 (dk_at dksX6_agree_6 20 rfl rfl)
theorem dX6_agree_165 : decode cX6_agree 165 = .ok (.aload_n 0, 1) := dk_42 (dk_at dksX6_agree_6 23 rfl rfl)
theorem dX6_agree_166 : decode cX6_agree 166 = .ok (.getfield 7, 3) := dk_180 0 7 (dk_at dksX6_agree_7 0 rfl rfl)
theorem dX6_agree_169 : decode cX6_agree 169 = .ok (.bipush 14, 2) := dk_16 14 (dk_at dksX6_agree_7 3 rfl rfl)
theorem dX6_agree_171 : decode cX6_agree 171 = .ok (.iaload, 1) := dk_46 (dk_at dksX6_agree_7 5 rfl rfl)
theorem dX6_agree_172 : decode cX6_agree 172 = .ok (.aload_n 0, 1) := dk_42 (dk_at dksX6_agree_7 6 rfl rfl)
theorem dX6_agree_173 : decode cX6_agree 173 = .ok (.iconst 3, 1) := dk_6 (dk_at dksX6_agree_7 7 rfl rfl)
theorem dX6_agree_174 : decode cX6_agree 174 = .ok (.invokevirtual 133, 3) := dk_182 0 133 (dk_at dksX6_agree_7 8 rfl rfl)
theorem dX6_agree_177 : decode cX6_agree 177 = .ok (.if_icmp .ne 7, 3) := dk_160 0 7 (dk_at dksX6_agree_7 11 rfl rfl)
theorem dX6_agree_180 : decode cX6_agree 180 = .ok (.iconst 1, 1) := dk_4 (dk_at dksX6_agree_7 14 rfl rfl)
theorem dX6_agree_181 : decode cX6_agree 181 = .ok (.goto 4, 3) := dk_167 0 4 (dk_at dksX6_agree_7 15 rfl rfl)
theorem dX6_agree_184 : decode cX6_agree 184 = .ok (.iconst 0, 1) := dk_3 (dk_at dksX6_agree_7 18 rfl rfl)
theorem dX6_agree_185 : decode cX6_agree 185 = .ok (.ireturn, 1) := dk_172 (dk_at dksX6_agree_7 19 rfl rfl)
abbrev cX6_isRight : ByteArray := prog_19_method_110_code
def yX6_isRight : MethodName := ⟨RX6, "isRight", "(I)Z"⟩
def dkwX6_isRight_3 : List UInt8 := [3, 184, 0, 81, 160, 0, 7, 4, 167, 0, 4, 3, 172]
abbrev dktX6_isRight_3 : List UInt8 := dkwX6_isRight_3 ++ []
def dkwX6_isRight_2 : List UInt8 := [158, 0, 5, 3, 172, 42, 27, 182, 1, 125, 42, 27, 6, 182, 0, 62, 4, 160, 0, 7, 4, 167, 0, 4]
abbrev dktX6_isRight_2 : List UInt8 := dkwX6_isRight_2 ++ dktX6_isRight_3
def dkwX6_isRight_1 : List UInt8 := [42, 27, 182, 0, 104, 153, 0, 23, 42, 27, 16, 9, 182, 0, 62, 154, 0, 13, 42, 27, 182, 0, 94]
abbrev dktX6_isRight_1 : List UInt8 := dkwX6_isRight_1 ++ dktX6_isRight_2
def dkwX6_isRight_0 : List UInt8 := [42, 27, 182, 0, 66, 153, 0, 19, 42, 42, 27, 7, 182, 0, 62, 182, 0, 101, 27, 159, 0, 5, 3, 172]
abbrev dktX6_isRight_0 : List UInt8 := dkwX6_isRight_0 ++ dktX6_isRight_1
theorem dksX6_isRight_0 : cX6_isRight.data.toList.drop 0 = dktX6_isRight_0 := by decide +kernel
theorem dksX6_isRight_1 : cX6_isRight.data.toList.drop 24 = dktX6_isRight_1 := dk_seg dksX6_isRight_0 24 rfl rfl
theorem dksX6_isRight_2 : cX6_isRight.data.toList.drop 47 = dktX6_isRight_2 := dk_seg dksX6_isRight_1 23 rfl rfl
theorem dksX6_isRight_3 : cX6_isRight.data.toList.drop 71 = dktX6_isRight_3 := dk_seg dksX6_isRight_2 24 rfl rfl
theorem dX6_isRight_0 : decode cX6_isRight 0 = .ok (.aload_n 0, 1) := dk_42 (dk_at dksX6_isRight_0 0 rfl rfl)
theorem dX6_isRight_1 : decode cX6_isRight 1 = .ok (.iload_n 1, 1) := dk_27 (dk_at dksX6_isRight_0 1 rfl rfl)
theorem dX6_isRight_2 : decode cX6_isRight 2 = .ok (.invokevirtual 66, 3) := dk_182 0 66 (dk_at dksX6_isRight_0 2 rfl rfl)
theorem dX6_isRight_5 : decode cX6_isRight 5 = .ok (.ifCond .eq 19, 3) := dk_153 0 19 (dk_at dksX6_isRight_0 5 rfl rfl)
theorem dX6_isRight_8 : decode cX6_isRight 8 = .ok (.aload_n 0, 1) := dk_42 (dk_at dksX6_isRight_0 8 rfl rfl)
theorem dX6_isRight_9 : decode cX6_isRight 9 = .ok (.aload_n 0, 1) := dk_42 (dk_at dksX6_isRight_0 9 rfl rfl)
theorem dX6_isRight_10 : decode cX6_isRight 10 = .ok (.iload_n 1, 1) := dk_27 (dk_at dksX6_isRight_0 10 rfl rfl)
theorem dX6_isRight_11 : decode cX6_isRight 11 = .ok (.iconst 4, 1) := dk_7 (dk_at dksX6_isRight_0 11 rfl rfl)
theorem dX6_isRight_12 : decode cX6_isRight 12 = .ok (.invokevirtual 62, 3) := dk_182 0 62 (dk_at dksX6_isRight_0 12 rfl rfl)
theorem dX6_isRight_15 : decode cX6_isRight 15 = .ok (.invokevirtual 101, 3) := dk_182 0 101 (dk_at dksX6_isRight_0 15 rfl rfl)
theorem dX6_isRight_18 : decode cX6_isRight 18 = .ok (.iload_n 1, 1) := dk_27 (dk_at dksX6_isRight_0 18 rfl rfl)
theorem dX6_isRight_19 : decode cX6_isRight 19 = .ok (.if_icmp .eq 5, 3) := dk_159 0 5 (dk_at dksX6_isRight_0 19 rfl rfl)
theorem dX6_isRight_22 : decode cX6_isRight 22 = .ok (.iconst 0, 1) := dk_3 (dk_at dksX6_isRight_0 22 rfl rfl)
theorem dX6_isRight_23 : decode cX6_isRight 23 = .ok (.ireturn, 1) := dk_172 (dk_at dksX6_isRight_0 23 rfl rfl)
theorem dX6_isRight_24 : decode cX6_isRight 24 = .ok (.aload_n 0, 1) := dk_42 (dk_at dksX6_isRight_1 0 rfl rfl)
theorem dX6_isRight_25 : decode cX6_isRight 25 = .ok (.iload_n 1, 1) := dk_27 (dk_at dksX6_isRight_1 1 rfl rfl)
theorem dX6_isRight_26 : decode cX6_isRight 26 = .ok (.invokevirtual 104, 3) := dk_182 0 104 (dk_at dksX6_isRight_1 2 rfl rfl)
theorem dX6_isRight_29 : decode cX6_isRight 29 = .ok (.ifCond .eq 23, 3) := dk_153 0 23 (dk_at dksX6_isRight_1 5 rfl rfl)
theorem dX6_isRight_32 : decode cX6_isRight 32 = .ok (.aload_n 0, 1) := dk_42 (dk_at dksX6_isRight_1 8 rfl rfl)
theorem dX6_isRight_33 : decode cX6_isRight 33 = .ok (.iload_n 1, 1) := dk_27 (dk_at dksX6_isRight_1 9 rfl rfl)
theorem dX6_isRight_34 : decode cX6_isRight 34 = .ok (.bipush 9, 2) := dk_16 9 (dk_at dksX6_isRight_1 10 rfl rfl)
theorem dX6_isRight_36 : decode cX6_isRight 36 = .ok (.invokevirtual 62, 3) := dk_182 0 62 (dk_at dksX6_isRight_1 12 rfl rfl)
theorem dX6_isRight_39 : decode cX6_isRight 39 = .ok (.ifCond .ne 13, 3) := dk_154 0 13 (dk_at dksX6_isRight_1 15 rfl rfl)
theorem dX6_isRight_42 : decode cX6_isRight 42 = .ok (.aload_n 0, 1) := dk_42 (dk_at dksX6_isRight_1 18 rfl rfl)
theorem dX6_isRight_43 : decode cX6_isRight 43 = .ok (.iload_n 1, 1) := dk_27 (dk_at dksX6_isRight_1 19 rfl rfl)
theorem dX6_isRight_44 : decode cX6_isRight 44 = .ok (.invokevirtual 94, 3) := dk_182 0 94 (dk_at dksX6_isRight_1 20 rfl rfl)
theorem dX6_isRight_47 : decode cX6_isRight 47 = .ok (.ifCond .le 5, 3) := dk_158 0 5 (dk_at dksX6_isRight_2 0 rfl rfl)
theorem dX6_isRight_50 : decode cX6_isRight 50 = .ok (.iconst 0, 1) := dk_3 (dk_at dksX6_isRight_2 3 rfl rfl)
theorem dX6_isRight_51 : decode cX6_isRight 51 = .ok (.ireturn, 1) := dk_172 (dk_at dksX6_isRight_2 4 rfl rfl)
theorem dX6_isRight_52 : decode cX6_isRight 52 = .ok (.aload_n 0, 1) := dk_42 (dk_at dksX6_isRight_2 5 rfl rfl)
theorem dX6_isRight_53 : decode cX6_isRight 53 = .ok (.iload_n 1, 1) := dk_27 (dk_at dksX6_isRight_2 6 rfl rfl)
theorem dX6_isRight_54 : decode cX6_isRight 54 = .ok (.invokevirtual 381, 3) := dk_182 1 125 (dk_at dksX6_isRight_2 7 rfl rfl)
theorem dX6_isRight_57 : decode cX6_isRight 57 = .ok (.aload_n 0, 1) := dk_42 (dk_at dksX6_isRight_2 10 rfl rfl)
theorem dX6_isRight_58 : decode cX6_isRight 58 = .ok (.iload_n 1, 1) := dk_27 (dk_at dksX6_isRight_2 11 rfl rfl)
theorem dX6_isRight_59 : decode cX6_isRight 59 = .ok (.iconst 3, 1) := dk_6 (dk_at dksX6_isRight_2 12 rfl rfl)
theorem dX6_isRight_60 : decode cX6_isRight 60 = .ok (.invokevirtual 62, 3) := dk_182 0 62 (dk_at dksX6_isRight_2 13 rfl rfl)
theorem dX6_isRight_63 : decode cX6_isRight 63 = .ok (.iconst 1, 1) := dk_4 (dk_at dksX6_isRight_2 16 rfl rfl)
theorem dX6_isRight_64 : decode cX6_isRight 64 = .ok (.if_icmp .ne 7, 3) := dk_160 0 7 (dk_at dksX6_isRight_2 17 rfl rfl)
theorem dX6_isRight_67 : decode cX6_isRight 67 = .ok (.iconst 1, 1) := dk_4 (dk_at dksX6_isRight_2 20 rfl rfl)
theorem dX6_isRight_68 : decode cX6_isRight 68 = .ok (.goto 4, 3) := dk_167 0 4 (dk_at dksX6_isRight_2 21 rfl rfl)
theorem dX6_isRight_71 : decode cX6_isRight 71 = .ok (.iconst 0, 1) := dk_3 (dk_at dksX6_isRight_3 0 rfl rfl)
theorem dX6_isRight_72 : decode cX6_isRight 72 = .ok (.invokestatic 81, 3) := dk_184 0 81 (dk_at dksX6_isRight_3 1 rfl rfl)
theorem dX6_isRight_75 : decode cX6_isRight 75 = .ok (.if_icmp .ne 7, 3) := dk_160 0 7 (dk_at dksX6_isRight_3 4 rfl rfl)
theorem dX6_isRight_78 : decode cX6_isRight 78 = .ok (.iconst 1, 1) := dk_4 (dk_at dksX6_isRight_3 7 rfl rfl)
theorem dX6_isRight_79 : decode cX6_isRight 79 = .ok (.goto 4, 3) := dk_167 0 4 (dk_at dksX6_isRight_3 8 rfl rfl)
theorem dX6_isRight_82 : decode cX6_isRight 82 = .ok (.iconst 0, 1) := dk_3 (dk_at dksX6_isRight_3 11 rfl rfl)
theorem dX6_isRight_83 : decode cX6_isRight 83 = .ok (.ireturn, 1) := dk_172 (dk_at dksX6_isRight_3 12 rfl rfl)
abbrev cX6_timesHeld : ByteArray := prog_19_method_109_code
def yX6_timesHeld : MethodName := ⟨RX6, "timesHeld", "(I)I"⟩
def dkwX6_timesHeld_3 : List UInt8 := [167, 255, 205, 132, 3, 1, 167, 255, 186, 28, 172]
abbrev dktX6_timesHeld_3 : List UInt8 := dkwX6_timesHeld_3 ++ []
def dkwX6_timesHeld_2 : List UInt8 := [16, 7, 182, 0, 62, 29, 160, 0, 7, 4, 167, 0, 4, 3, 184, 0, 81, 96, 61, 132, 4, 1]
abbrev dktX6_timesHeld_2 : List UInt8 := dkwX6_timesHeld_2 ++ dktX6_timesHeld_3
def dkwX6_timesHeld_1 : List UInt8 := [182, 0, 78, 162, 0, 45, 28, 42, 29, 16, 8, 21, 4, 96, 182, 0, 78, 27, 160, 0, 18, 42, 27]
abbrev dktX6_timesHeld_1 : List UInt8 := dkwX6_timesHeld_1 ++ dktX6_timesHeld_2
def dkwX6_timesHeld_0 : List UInt8 := [3, 61, 3, 62, 29, 42, 180, 0, 7, 6, 46, 162, 0, 66, 3, 54, 4, 21, 4, 42, 29, 16, 6]
abbrev dktX6_timesHeld_0 : List UInt8 := dkwX6_timesHeld_0 ++ dktX6_timesHeld_1
theorem dksX6_timesHeld_0 : cX6_timesHeld.data.toList.drop 0 = dktX6_timesHeld_0 := by decide +kernel
theorem dksX6_timesHeld_1 : cX6_timesHeld.data.toList.drop 23 = dktX6_timesHeld_1 := dk_seg dksX6_timesHeld_0 23 rfl rfl
theorem dksX6_timesHeld_2 : cX6_timesHeld.data.toList.drop 46 = dktX6_timesHeld_2 := dk_seg dksX6_timesHeld_1 23 rfl rfl
theorem dksX6_timesHeld_3 : cX6_timesHeld.data.toList.drop 68 = dktX6_timesHeld_3 := dk_seg dksX6_timesHeld_2 22 rfl rfl
theorem dX6_timesHeld_0 : decode cX6_timesHeld 0 = .ok (.iconst 0, 1) := dk_3 (dk_at dksX6_timesHeld_0 0 rfl rfl)
theorem dX6_timesHeld_1 : decode cX6_timesHeld 1 = .ok (.istore_n 2, 1) := dk_61 (dk_at dksX6_timesHeld_0 1 rfl rfl)
theorem dX6_timesHeld_2 : decode cX6_timesHeld 2 = .ok (.iconst 0, 1) := dk_3 (dk_at dksX6_timesHeld_0 2 rfl rfl)
theorem dX6_timesHeld_3 : decode cX6_timesHeld 3 = .ok (.istore_n 3, 1) := dk_62 (dk_at dksX6_timesHeld_0 3 rfl rfl)
theorem dX6_timesHeld_4 : decode cX6_timesHeld 4 = .ok (.iload_n 3, 1) := dk_29 (dk_at dksX6_timesHeld_0 4 rfl rfl)
theorem dX6_timesHeld_5 : decode cX6_timesHeld 5 = .ok (.aload_n 0, 1) := dk_42 (dk_at dksX6_timesHeld_0 5 rfl rfl)
theorem dX6_timesHeld_6 : decode cX6_timesHeld 6 = .ok (.getfield 7, 3) := dk_180 0 7 (dk_at dksX6_timesHeld_0 6 rfl rfl)
theorem dX6_timesHeld_9 : decode cX6_timesHeld 9 = .ok (.iconst 3, 1) := dk_6 (dk_at dksX6_timesHeld_0 9 rfl rfl)
theorem dX6_timesHeld_10 : decode cX6_timesHeld 10 = .ok (.iaload, 1) := dk_46 (dk_at dksX6_timesHeld_0 10 rfl rfl)
theorem dX6_timesHeld_11 : decode cX6_timesHeld 11 = .ok (.if_icmp .ge 66, 3) := dk_162 0 66 (dk_at dksX6_timesHeld_0 11 rfl rfl)
theorem dX6_timesHeld_14 : decode cX6_timesHeld 14 = .ok (.iconst 0, 1) := dk_3 (dk_at dksX6_timesHeld_0 14 rfl rfl)
theorem dX6_timesHeld_15 : decode cX6_timesHeld 15 = .ok (.istore 4, 2) := dk_54 4 (dk_at dksX6_timesHeld_0 15 rfl rfl)
theorem dX6_timesHeld_17 : decode cX6_timesHeld 17 = .ok (.iload 4, 2) := dk_21 4 (dk_at dksX6_timesHeld_0 17 rfl rfl)
theorem dX6_timesHeld_19 : decode cX6_timesHeld 19 = .ok (.aload_n 0, 1) := dk_42 (dk_at dksX6_timesHeld_0 19 rfl rfl)
theorem dX6_timesHeld_20 : decode cX6_timesHeld 20 = .ok (.iload_n 3, 1) := dk_29 (dk_at dksX6_timesHeld_0 20 rfl rfl)
theorem dX6_timesHeld_21 : decode cX6_timesHeld 21 = .ok (.bipush 6, 2) := dk_16 6 (dk_at dksX6_timesHeld_0 21 rfl rfl)
theorem dX6_timesHeld_23 : decode cX6_timesHeld 23 = .ok (.invokevirtual 78, 3) := dk_182 0 78 (dk_at dksX6_timesHeld_1 0 rfl rfl)
theorem dX6_timesHeld_26 : decode cX6_timesHeld 26 = .ok (.if_icmp .ge 45, 3) := dk_162 0 45 (dk_at dksX6_timesHeld_1 3 rfl rfl)
theorem dX6_timesHeld_29 : decode cX6_timesHeld 29 = .ok (.iload_n 2, 1) := dk_28 (dk_at dksX6_timesHeld_1 6 rfl rfl)
theorem dX6_timesHeld_30 : decode cX6_timesHeld 30 = .ok (.aload_n 0, 1) := dk_42 (dk_at dksX6_timesHeld_1 7 rfl rfl)
theorem dX6_timesHeld_31 : decode cX6_timesHeld 31 = .ok (.iload_n 3, 1) := dk_29 (dk_at dksX6_timesHeld_1 8 rfl rfl)
theorem dX6_timesHeld_32 : decode cX6_timesHeld 32 = .ok (.bipush 8, 2) := dk_16 8 (dk_at dksX6_timesHeld_1 9 rfl rfl)
theorem dX6_timesHeld_34 : decode cX6_timesHeld 34 = .ok (.iload 4, 2) := dk_21 4 (dk_at dksX6_timesHeld_1 11 rfl rfl)
theorem dX6_timesHeld_36 : decode cX6_timesHeld 36 = .ok (.iadd, 1) := dk_96 (dk_at dksX6_timesHeld_1 13 rfl rfl)
theorem dX6_timesHeld_37 : decode cX6_timesHeld 37 = .ok (.invokevirtual 78, 3) := dk_182 0 78 (dk_at dksX6_timesHeld_1 14 rfl rfl)
theorem dX6_timesHeld_40 : decode cX6_timesHeld 40 = .ok (.iload_n 1, 1) := dk_27 (dk_at dksX6_timesHeld_1 17 rfl rfl)
theorem dX6_timesHeld_41 : decode cX6_timesHeld 41 = .ok (.if_icmp .ne 18, 3) := dk_160 0 18 (dk_at dksX6_timesHeld_1 18 rfl rfl)
theorem dX6_timesHeld_44 : decode cX6_timesHeld 44 = .ok (.aload_n 0, 1) := dk_42 (dk_at dksX6_timesHeld_1 21 rfl rfl)
theorem dX6_timesHeld_45 : decode cX6_timesHeld 45 = .ok (.iload_n 1, 1) := dk_27 (dk_at dksX6_timesHeld_1 22 rfl rfl)
theorem dX6_timesHeld_46 : decode cX6_timesHeld 46 = .ok (.bipush 7, 2) := dk_16 7 (dk_at dksX6_timesHeld_2 0 rfl rfl)
theorem dX6_timesHeld_48 : decode cX6_timesHeld 48 = .ok (.invokevirtual 62, 3) := dk_182 0 62 (dk_at dksX6_timesHeld_2 2 rfl rfl)
theorem dX6_timesHeld_51 : decode cX6_timesHeld 51 = .ok (.iload_n 3, 1) := dk_29 (dk_at dksX6_timesHeld_2 5 rfl rfl)
theorem dX6_timesHeld_52 : decode cX6_timesHeld 52 = .ok (.if_icmp .ne 7, 3) := dk_160 0 7 (dk_at dksX6_timesHeld_2 6 rfl rfl)
theorem dX6_timesHeld_55 : decode cX6_timesHeld 55 = .ok (.iconst 1, 1) := dk_4 (dk_at dksX6_timesHeld_2 9 rfl rfl)
theorem dX6_timesHeld_56 : decode cX6_timesHeld 56 = .ok (.goto 4, 3) := dk_167 0 4 (dk_at dksX6_timesHeld_2 10 rfl rfl)
theorem dX6_timesHeld_59 : decode cX6_timesHeld 59 = .ok (.iconst 0, 1) := dk_3 (dk_at dksX6_timesHeld_2 13 rfl rfl)
theorem dX6_timesHeld_60 : decode cX6_timesHeld 60 = .ok (.invokestatic 81, 3) := dk_184 0 81 (dk_at dksX6_timesHeld_2 14 rfl rfl)
theorem dX6_timesHeld_63 : decode cX6_timesHeld 63 = .ok (.iadd, 1) := dk_96 (dk_at dksX6_timesHeld_2 17 rfl rfl)
theorem dX6_timesHeld_64 : decode cX6_timesHeld 64 = .ok (.istore_n 2, 1) := dk_61 (dk_at dksX6_timesHeld_2 18 rfl rfl)
theorem dX6_timesHeld_65 : decode cX6_timesHeld 65 = .ok (.iinc 4 1, 3) := dk_132 4 1 (dk_at dksX6_timesHeld_2 19 rfl rfl)
theorem dX6_timesHeld_68 : decode cX6_timesHeld 68 = .ok (.goto (-51), 3) := dk_167 255 205 (dk_at dksX6_timesHeld_3 0 rfl rfl)
theorem dX6_timesHeld_71 : decode cX6_timesHeld 71 = .ok (.iinc 3 1, 3) := dk_132 3 1 (dk_at dksX6_timesHeld_3 3 rfl rfl)
theorem dX6_timesHeld_74 : decode cX6_timesHeld 74 = .ok (.goto (-70), 3) := dk_167 255 186 (dk_at dksX6_timesHeld_3 6 rfl rfl)
theorem dX6_timesHeld_77 : decode cX6_timesHeld 77 = .ok (.iload_n 2, 1) := dk_28 (dk_at dksX6_timesHeld_3 9 rfl rfl)
theorem dX6_timesHeld_78 : decode cX6_timesHeld 78 = .ok (.ireturn, 1) := dk_172 (dk_at dksX6_timesHeld_3 10 rfl rfl)
abbrev cX6_sortedPart : ByteArray := prog_19_method_112_code
def yX6_sortedPart : MethodName := ⟨RX6, "sortedPart", "()D"⟩
def dkwX6_sortedPart_1 : List UInt8 := [154, 0, 7, 14, 167, 0, 8, 27, 135, 28, 135, 111, 175]
abbrev dktX6_sortedPart_1 : List UInt8 := dkwX6_sortedPart_1 ++ []
def dkwX6_sortedPart_0 : List UInt8 := [42, 3, 181, 0, 55, 42, 180, 0, 7, 16, 9, 46, 60, 27, 42, 180, 0, 7, 16, 10, 46, 96, 61, 28]
abbrev dktX6_sortedPart_0 : List UInt8 := dkwX6_sortedPart_0 ++ dktX6_sortedPart_1
theorem dksX6_sortedPart_0 : cX6_sortedPart.data.toList.drop 0 = dktX6_sortedPart_0 := by decide +kernel
theorem dksX6_sortedPart_1 : cX6_sortedPart.data.toList.drop 24 = dktX6_sortedPart_1 := dk_seg dksX6_sortedPart_0 24 rfl rfl
theorem dX6_sortedPart_0 : decode cX6_sortedPart 0 = .ok (.aload_n 0, 1) := dk_42 (dk_at dksX6_sortedPart_0 0 rfl rfl)
theorem dX6_sortedPart_1 : decode cX6_sortedPart 1 = .ok (.iconst 0, 1) := dk_3 (dk_at dksX6_sortedPart_0 1 rfl rfl)
theorem dX6_sortedPart_2 : decode cX6_sortedPart 2 = .ok (.putfield 55, 3) := dk_181 0 55 (dk_at dksX6_sortedPart_0 2 rfl rfl)
theorem dX6_sortedPart_5 : decode cX6_sortedPart 5 = .ok (.aload_n 0, 1) := dk_42 (dk_at dksX6_sortedPart_0 5 rfl rfl)
theorem dX6_sortedPart_6 : decode cX6_sortedPart 6 = .ok (.getfield 7, 3) := dk_180 0 7 (dk_at dksX6_sortedPart_0 6 rfl rfl)
theorem dX6_sortedPart_9 : decode cX6_sortedPart 9 = .ok (.bipush 9, 2) := dk_16 9 (dk_at dksX6_sortedPart_0 9 rfl rfl)
theorem dX6_sortedPart_11 : decode cX6_sortedPart 11 = .ok (.iaload, 1) := dk_46 (dk_at dksX6_sortedPart_0 11 rfl rfl)
theorem dX6_sortedPart_12 : decode cX6_sortedPart 12 = .ok (.istore_n 1, 1) := dk_60 (dk_at dksX6_sortedPart_0 12 rfl rfl)
theorem dX6_sortedPart_13 : decode cX6_sortedPart 13 = .ok (.iload_n 1, 1) := dk_27 (dk_at dksX6_sortedPart_0 13 rfl rfl)
theorem dX6_sortedPart_14 : decode cX6_sortedPart 14 = .ok (.aload_n 0, 1) := dk_42 (dk_at dksX6_sortedPart_0 14 rfl rfl)
theorem dX6_sortedPart_15 : decode cX6_sortedPart 15 = .ok (.getfield 7, 3) := dk_180 0 7 (dk_at dksX6_sortedPart_0 15 rfl rfl)
theorem dX6_sortedPart_18 : decode cX6_sortedPart 18 = .ok (.bipush 10, 2) := dk_16 10 (dk_at dksX6_sortedPart_0 18 rfl rfl)
theorem dX6_sortedPart_20 : decode cX6_sortedPart 20 = .ok (.iaload, 1) := dk_46 (dk_at dksX6_sortedPart_0 20 rfl rfl)
theorem dX6_sortedPart_21 : decode cX6_sortedPart 21 = .ok (.iadd, 1) := dk_96 (dk_at dksX6_sortedPart_0 21 rfl rfl)
theorem dX6_sortedPart_22 : decode cX6_sortedPart 22 = .ok (.istore_n 2, 1) := dk_61 (dk_at dksX6_sortedPart_0 22 rfl rfl)
theorem dX6_sortedPart_23 : decode cX6_sortedPart 23 = .ok (.iload_n 2, 1) := dk_28 (dk_at dksX6_sortedPart_0 23 rfl rfl)
theorem dX6_sortedPart_24 : decode cX6_sortedPart 24 = .ok (.ifCond .ne 7, 3) := dk_154 0 7 (dk_at dksX6_sortedPart_1 0 rfl rfl)
theorem dX6_sortedPart_27 : decode cX6_sortedPart 27 = .ok (.dconst 0, 1) := dk_14 (dk_at dksX6_sortedPart_1 3 rfl rfl)
theorem dX6_sortedPart_28 : decode cX6_sortedPart 28 = .ok (.goto 8, 3) := dk_167 0 8 (dk_at dksX6_sortedPart_1 4 rfl rfl)
theorem dX6_sortedPart_31 : decode cX6_sortedPart 31 = .ok (.iload_n 1, 1) := dk_27 (dk_at dksX6_sortedPart_1 7 rfl rfl)
theorem dX6_sortedPart_32 : decode cX6_sortedPart 32 = .ok (.i2d, 1) := dk_135 (dk_at dksX6_sortedPart_1 8 rfl rfl)
theorem dX6_sortedPart_33 : decode cX6_sortedPart 33 = .ok (.iload_n 2, 1) := dk_28 (dk_at dksX6_sortedPart_1 9 rfl rfl)
theorem dX6_sortedPart_34 : decode cX6_sortedPart 34 = .ok (.i2d, 1) := dk_135 (dk_at dksX6_sortedPart_1 10 rfl rfl)
theorem dX6_sortedPart_35 : decode cX6_sortedPart 35 = .ok (.ddiv, 1) := dk_111 (dk_at dksX6_sortedPart_1 11 rfl rfl)
theorem dX6_sortedPart_36 : decode cX6_sortedPart 36 = .ok (.dreturn, 1) := dk_175 (dk_at dksX6_sortedPart_1 12 rfl rfl)
abbrev cX6_load : ByteArray := prog_19_method_113_code
def yX6_load : MethodName := ⟨RX6, "load", "()F"⟩
def dkwX6_load_0 : List UInt8 := [42, 3, 181, 0, 55, 42, 3, 182, 0, 133, 134, 42, 180, 0, 7, 3, 46, 134, 110, 174]
abbrev dktX6_load_0 : List UInt8 := dkwX6_load_0 ++ []
theorem dksX6_load_0 : cX6_load.data.toList.drop 0 = dktX6_load_0 := by decide +kernel
theorem dX6_load_0 : decode cX6_load 0 = .ok (.aload_n 0, 1) := dk_42 (dk_at dksX6_load_0 0 rfl rfl)
theorem dX6_load_1 : decode cX6_load 1 = .ok (.iconst 0, 1) := dk_3 (dk_at dksX6_load_0 1 rfl rfl)
theorem dX6_load_2 : decode cX6_load 2 = .ok (.putfield 55, 3) := dk_181 0 55 (dk_at dksX6_load_0 2 rfl rfl)
theorem dX6_load_5 : decode cX6_load 5 = .ok (.aload_n 0, 1) := dk_42 (dk_at dksX6_load_0 5 rfl rfl)
theorem dX6_load_6 : decode cX6_load 6 = .ok (.iconst 0, 1) := dk_3 (dk_at dksX6_load_0 6 rfl rfl)
theorem dX6_load_7 : decode cX6_load 7 = .ok (.invokevirtual 133, 3) := dk_182 0 133 (dk_at dksX6_load_0 7 rfl rfl)
theorem dX6_load_10 : decode cX6_load 10 = .ok (.i2f, 1) := dk_134 (dk_at dksX6_load_0 10 rfl rfl)
theorem dX6_load_11 : decode cX6_load 11 = .ok (.aload_n 0, 1) := dk_42 (dk_at dksX6_load_0 11 rfl rfl)
theorem dX6_load_12 : decode cX6_load 12 = .ok (.getfield 7, 3) := dk_180 0 7 (dk_at dksX6_load_0 12 rfl rfl)
theorem dX6_load_15 : decode cX6_load 15 = .ok (.iconst 0, 1) := dk_3 (dk_at dksX6_load_0 15 rfl rfl)
theorem dX6_load_16 : decode cX6_load 16 = .ok (.iaload, 1) := dk_46 (dk_at dksX6_load_0 16 rfl rfl)
theorem dX6_load_17 : decode cX6_load 17 = .ok (.i2f, 1) := dk_134 (dk_at dksX6_load_0 17 rfl rfl)
theorem dX6_load_18 : decode cX6_load 18 = .ok (.fdiv, 1) := dk_110 (dk_at dksX6_load_0 18 rfl rfl)
theorem dX6_load_19 : decode cX6_load 19 = .ok (.freturn, 1) := dk_174 (dk_at dksX6_load_0 19 rfl rfl)
abbrev cX6_put : ByteArray := prog_19_method_114_code
def yX6_put : MethodName := ⟨RX6, "put", "(II)I"⟩
def dkwX6_put_2 : List UInt8 := [6, 182, 1, 58, 153, 0, 5, 3, 172, 42, 182, 1, 52, 42, 27, 28, 182, 1, 28, 172]
abbrev dktX6_put_2 : List UInt8 := dkwX6_put_2 ++ []
def dkwX6_put_1 : List UInt8 := [167, 0, 4, 3, 5, 182, 1, 58, 154, 0, 23, 42, 42, 182, 1, 25, 153, 0, 7, 4, 167, 0, 4, 3]
abbrev dktX6_put_1 : List UInt8 := dkwX6_put_1 ++ dktX6_put_2
def dkwX6_put_0 : List UInt8 := [42, 3, 181, 0, 55, 42, 27, 182, 1, 77, 154, 0, 45, 42, 28, 3, 8, 184, 0, 152, 154, 0, 7, 4]
abbrev dktX6_put_0 : List UInt8 := dkwX6_put_0 ++ dktX6_put_1
theorem dksX6_put_0 : cX6_put.data.toList.drop 0 = dktX6_put_0 := by decide +kernel
theorem dksX6_put_1 : cX6_put.data.toList.drop 24 = dktX6_put_1 := dk_seg dksX6_put_0 24 rfl rfl
theorem dksX6_put_2 : cX6_put.data.toList.drop 48 = dktX6_put_2 := dk_seg dksX6_put_1 24 rfl rfl
theorem dX6_put_0 : decode cX6_put 0 = .ok (.aload_n 0, 1) := dk_42 (dk_at dksX6_put_0 0 rfl rfl)
theorem dX6_put_1 : decode cX6_put 1 = .ok (.iconst 0, 1) := dk_3 (dk_at dksX6_put_0 1 rfl rfl)
theorem dX6_put_2 : decode cX6_put 2 = .ok (.putfield 55, 3) := dk_181 0 55 (dk_at dksX6_put_0 2 rfl rfl)
theorem dX6_put_5 : decode cX6_put 5 = .ok (.aload_n 0, 1) := dk_42 (dk_at dksX6_put_0 5 rfl rfl)
theorem dX6_put_6 : decode cX6_put 6 = .ok (.iload_n 1, 1) := dk_27 (dk_at dksX6_put_0 6 rfl rfl)
theorem dX6_put_7 : decode cX6_put 7 = .ok (.invokevirtual 333, 3) := dk_182 1 77 (dk_at dksX6_put_0 7 rfl rfl)
theorem dX6_put_10 : decode cX6_put 10 = .ok (.ifCond .ne 45, 3) := dk_154 0 45 (dk_at dksX6_put_0 10 rfl rfl)
theorem dX6_put_13 : decode cX6_put 13 = .ok (.aload_n 0, 1) := dk_42 (dk_at dksX6_put_0 13 rfl rfl)
theorem dX6_put_14 : decode cX6_put 14 = .ok (.iload_n 2, 1) := dk_28 (dk_at dksX6_put_0 14 rfl rfl)
theorem dX6_put_15 : decode cX6_put 15 = .ok (.iconst 0, 1) := dk_3 (dk_at dksX6_put_0 15 rfl rfl)
theorem dX6_put_16 : decode cX6_put 16 = .ok (.iconst 5, 1) := dk_8 (dk_at dksX6_put_0 16 rfl rfl)
theorem dX6_put_17 : decode cX6_put 17 = .ok (.invokestatic 152, 3) := dk_184 0 152 (dk_at dksX6_put_0 17 rfl rfl)
theorem dX6_put_20 : decode cX6_put 20 = .ok (.ifCond .ne 7, 3) := dk_154 0 7 (dk_at dksX6_put_0 20 rfl rfl)
theorem dX6_put_23 : decode cX6_put 23 = .ok (.iconst 1, 1) := dk_4 (dk_at dksX6_put_0 23 rfl rfl)
theorem dX6_put_24 : decode cX6_put 24 = .ok (.goto 4, 3) := dk_167 0 4 (dk_at dksX6_put_1 0 rfl rfl)
theorem dX6_put_27 : decode cX6_put 27 = .ok (.iconst 0, 1) := dk_3 (dk_at dksX6_put_1 3 rfl rfl)
theorem dX6_put_28 : decode cX6_put 28 = .ok (.iconst 2, 1) := dk_5 (dk_at dksX6_put_1 4 rfl rfl)
theorem dX6_put_29 : decode cX6_put 29 = .ok (.invokevirtual 314, 3) := dk_182 1 58 (dk_at dksX6_put_1 5 rfl rfl)
theorem dX6_put_32 : decode cX6_put 32 = .ok (.ifCond .ne 23, 3) := dk_154 0 23 (dk_at dksX6_put_1 8 rfl rfl)
theorem dX6_put_35 : decode cX6_put 35 = .ok (.aload_n 0, 1) := dk_42 (dk_at dksX6_put_1 11 rfl rfl)
theorem dX6_put_36 : decode cX6_put 36 = .ok (.aload_n 0, 1) := dk_42 (dk_at dksX6_put_1 12 rfl rfl)
theorem dX6_put_37 : decode cX6_put 37 = .ok (.invokevirtual 281, 3) := dk_182 1 25 (dk_at dksX6_put_1 13 rfl rfl)
theorem dX6_put_40 : decode cX6_put 40 = .ok (.ifCond .eq 7, 3) := dk_153 0 7 (dk_at dksX6_put_1 16 rfl rfl)
theorem dX6_put_43 : decode cX6_put 43 = .ok (.iconst 1, 1) := dk_4 (dk_at dksX6_put_1 19 rfl rfl)
theorem dX6_put_44 : decode cX6_put 44 = .ok (.goto 4, 3) := dk_167 0 4 (dk_at dksX6_put_1 20 rfl rfl)
theorem dX6_put_47 : decode cX6_put 47 = .ok (.iconst 0, 1) := dk_3 (dk_at dksX6_put_1 23 rfl rfl)
theorem dX6_put_48 : decode cX6_put 48 = .ok (.iconst 3, 1) := dk_6 (dk_at dksX6_put_2 0 rfl rfl)
theorem dX6_put_49 : decode cX6_put 49 = .ok (.invokevirtual 314, 3) := dk_182 1 58 (dk_at dksX6_put_2 1 rfl rfl)
theorem dX6_put_52 : decode cX6_put 52 = .ok (.ifCond .eq 5, 3) := dk_153 0 5 (dk_at dksX6_put_2 4 rfl rfl)
theorem dX6_put_55 : decode cX6_put 55 = .ok (.iconst 0, 1) := dk_3 (dk_at dksX6_put_2 7 rfl rfl)
theorem dX6_put_56 : decode cX6_put 56 = .ok (.ireturn, 1) := dk_172 (dk_at dksX6_put_2 8 rfl rfl)
theorem dX6_put_57 : decode cX6_put 57 = .ok (.aload_n 0, 1) := dk_42 (dk_at dksX6_put_2 9 rfl rfl)
theorem dX6_put_58 : decode cX6_put 58 = .ok (.invokevirtual 308, 3) := dk_182 1 52 (dk_at dksX6_put_2 10 rfl rfl)
theorem dX6_put_61 : decode cX6_put 61 = .ok (.aload_n 0, 1) := dk_42 (dk_at dksX6_put_2 13 rfl rfl)
theorem dX6_put_62 : decode cX6_put 62 = .ok (.iload_n 1, 1) := dk_27 (dk_at dksX6_put_2 14 rfl rfl)
theorem dX6_put_63 : decode cX6_put 63 = .ok (.iload_n 2, 1) := dk_28 (dk_at dksX6_put_2 15 rfl rfl)
theorem dX6_put_64 : decode cX6_put 64 = .ok (.invokevirtual 284, 3) := dk_182 1 28 (dk_at dksX6_put_2 16 rfl rfl)
theorem dX6_put_67 : decode cX6_put 67 = .ok (.ireturn, 1) := dk_172 (dk_at dksX6_put_2 19 rfl rfl)
abbrev cX6_tick : ByteArray := prog_19_method_115_code
def yX6_tick : MethodName := ⟨RX6, "tick", "(I)I"⟩
def dkwX6_tick_2 : List UInt8 := [167, 0, 4, 3, 5, 182, 1, 58, 153, 0, 5, 3, 172, 42, 182, 1, 52, 42, 27, 182, 1, 31, 172]
abbrev dktX6_tick_2 : List UInt8 := dkwX6_tick_2 ++ []
def dkwX6_tick_1 : List UInt8 := [182, 1, 58, 154, 0, 30, 42, 42, 180, 0, 7, 8, 46, 27, 96, 17, 39, 15, 164, 0, 7, 4]
abbrev dktX6_tick_1 : List UInt8 := dkwX6_tick_1 ++ dktX6_tick_2
def dkwX6_tick_0 : List UInt8 := [42, 3, 181, 0, 55, 42, 27, 4, 17, 1, 244, 184, 0, 152, 154, 0, 7, 4, 167, 0, 4, 3, 4]
abbrev dktX6_tick_0 : List UInt8 := dkwX6_tick_0 ++ dktX6_tick_1
theorem dksX6_tick_0 : cX6_tick.data.toList.drop 0 = dktX6_tick_0 := by decide +kernel
theorem dksX6_tick_1 : cX6_tick.data.toList.drop 23 = dktX6_tick_1 := dk_seg dksX6_tick_0 23 rfl rfl
theorem dksX6_tick_2 : cX6_tick.data.toList.drop 45 = dktX6_tick_2 := dk_seg dksX6_tick_1 22 rfl rfl
theorem dX6_tick_0 : decode cX6_tick 0 = .ok (.aload_n 0, 1) := dk_42 (dk_at dksX6_tick_0 0 rfl rfl)
theorem dX6_tick_1 : decode cX6_tick 1 = .ok (.iconst 0, 1) := dk_3 (dk_at dksX6_tick_0 1 rfl rfl)
theorem dX6_tick_2 : decode cX6_tick 2 = .ok (.putfield 55, 3) := dk_181 0 55 (dk_at dksX6_tick_0 2 rfl rfl)
theorem dX6_tick_5 : decode cX6_tick 5 = .ok (.aload_n 0, 1) := dk_42 (dk_at dksX6_tick_0 5 rfl rfl)
theorem dX6_tick_6 : decode cX6_tick 6 = .ok (.iload_n 1, 1) := dk_27 (dk_at dksX6_tick_0 6 rfl rfl)
theorem dX6_tick_7 : decode cX6_tick 7 = .ok (.iconst 1, 1) := dk_4 (dk_at dksX6_tick_0 7 rfl rfl)
theorem dX6_tick_8 : decode cX6_tick 8 = .ok (.sipush 500, 3) := dk_17 1 244 (dk_at dksX6_tick_0 8 rfl rfl)
theorem dX6_tick_11 : decode cX6_tick 11 = .ok (.invokestatic 152, 3) := dk_184 0 152 (dk_at dksX6_tick_0 11 rfl rfl)
theorem dX6_tick_14 : decode cX6_tick 14 = .ok (.ifCond .ne 7, 3) := dk_154 0 7 (dk_at dksX6_tick_0 14 rfl rfl)
theorem dX6_tick_17 : decode cX6_tick 17 = .ok (.iconst 1, 1) := dk_4 (dk_at dksX6_tick_0 17 rfl rfl)
theorem dX6_tick_18 : decode cX6_tick 18 = .ok (.goto 4, 3) := dk_167 0 4 (dk_at dksX6_tick_0 18 rfl rfl)
theorem dX6_tick_21 : decode cX6_tick 21 = .ok (.iconst 0, 1) := dk_3 (dk_at dksX6_tick_0 21 rfl rfl)
theorem dX6_tick_22 : decode cX6_tick 22 = .ok (.iconst 1, 1) := dk_4 (dk_at dksX6_tick_0 22 rfl rfl)
theorem dX6_tick_23 : decode cX6_tick 23 = .ok (.invokevirtual 314, 3) := dk_182 1 58 (dk_at dksX6_tick_1 0 rfl rfl)
theorem dX6_tick_26 : decode cX6_tick 26 = .ok (.ifCond .ne 30, 3) := dk_154 0 30 (dk_at dksX6_tick_1 3 rfl rfl)
theorem dX6_tick_29 : decode cX6_tick 29 = .ok (.aload_n 0, 1) := dk_42 (dk_at dksX6_tick_1 6 rfl rfl)
theorem dX6_tick_30 : decode cX6_tick 30 = .ok (.aload_n 0, 1) := dk_42 (dk_at dksX6_tick_1 7 rfl rfl)
theorem dX6_tick_31 : decode cX6_tick 31 = .ok (.getfield 7, 3) := dk_180 0 7 (dk_at dksX6_tick_1 8 rfl rfl)
theorem dX6_tick_34 : decode cX6_tick 34 = .ok (.iconst 5, 1) := dk_8 (dk_at dksX6_tick_1 11 rfl rfl)
theorem dX6_tick_35 : decode cX6_tick 35 = .ok (.iaload, 1) := dk_46 (dk_at dksX6_tick_1 12 rfl rfl)
theorem dX6_tick_36 : decode cX6_tick 36 = .ok (.iload_n 1, 1) := dk_27 (dk_at dksX6_tick_1 13 rfl rfl)
theorem dX6_tick_37 : decode cX6_tick 37 = .ok (.iadd, 1) := dk_96 (dk_at dksX6_tick_1 14 rfl rfl)
theorem dX6_tick_38 : decode cX6_tick 38 = .ok (.sipush 9999, 3) := dk_17 39 15 (dk_at dksX6_tick_1 15 rfl rfl)
theorem dX6_tick_41 : decode cX6_tick 41 = .ok (.if_icmp .le 7, 3) := dk_164 0 7 (dk_at dksX6_tick_1 18 rfl rfl)
theorem dX6_tick_44 : decode cX6_tick 44 = .ok (.iconst 1, 1) := dk_4 (dk_at dksX6_tick_1 21 rfl rfl)
theorem dX6_tick_45 : decode cX6_tick 45 = .ok (.goto 4, 3) := dk_167 0 4 (dk_at dksX6_tick_2 0 rfl rfl)
theorem dX6_tick_48 : decode cX6_tick 48 = .ok (.iconst 0, 1) := dk_3 (dk_at dksX6_tick_2 3 rfl rfl)
theorem dX6_tick_49 : decode cX6_tick 49 = .ok (.iconst 2, 1) := dk_5 (dk_at dksX6_tick_2 4 rfl rfl)
theorem dX6_tick_50 : decode cX6_tick 50 = .ok (.invokevirtual 314, 3) := dk_182 1 58 (dk_at dksX6_tick_2 5 rfl rfl)
theorem dX6_tick_53 : decode cX6_tick 53 = .ok (.ifCond .eq 5, 3) := dk_153 0 5 (dk_at dksX6_tick_2 8 rfl rfl)
theorem dX6_tick_56 : decode cX6_tick 56 = .ok (.iconst 0, 1) := dk_3 (dk_at dksX6_tick_2 11 rfl rfl)
theorem dX6_tick_57 : decode cX6_tick 57 = .ok (.ireturn, 1) := dk_172 (dk_at dksX6_tick_2 12 rfl rfl)
theorem dX6_tick_58 : decode cX6_tick 58 = .ok (.aload_n 0, 1) := dk_42 (dk_at dksX6_tick_2 13 rfl rfl)
theorem dX6_tick_59 : decode cX6_tick 59 = .ok (.invokevirtual 308, 3) := dk_182 1 52 (dk_at dksX6_tick_2 14 rfl rfl)
theorem dX6_tick_62 : decode cX6_tick 62 = .ok (.aload_n 0, 1) := dk_42 (dk_at dksX6_tick_2 17 rfl rfl)
theorem dX6_tick_63 : decode cX6_tick 63 = .ok (.iload_n 1, 1) := dk_27 (dk_at dksX6_tick_2 18 rfl rfl)
theorem dX6_tick_64 : decode cX6_tick 64 = .ok (.invokevirtual 287, 3) := dk_182 1 31 (dk_at dksX6_tick_2 19 rfl rfl)
theorem dX6_tick_67 : decode cX6_tick 67 = .ok (.ireturn, 1) := dk_172 (dk_at dksX6_tick_2 22 rfl rfl)
abbrev cX6_slip : ByteArray := prog_19_method_116_code
def yX6_slip : MethodName := ⟨RX6, "slip", "(I)I"⟩
def dkwX6_slip_1 : List UInt8 := [167, 0, 4, 3, 5, 182, 1, 58, 153, 0, 5, 3, 172, 42, 182, 1, 52, 42, 27, 182, 1, 37, 172]
abbrev dktX6_slip_1 : List UInt8 := dkwX6_slip_1 ++ []
def dkwX6_slip_0 : List UInt8 := [42, 3, 181, 0, 55, 42, 27, 182, 1, 74, 154, 0, 24, 42, 42, 27, 182, 1, 34, 153, 0, 7, 4]
abbrev dktX6_slip_0 : List UInt8 := dkwX6_slip_0 ++ dktX6_slip_1
theorem dksX6_slip_0 : cX6_slip.data.toList.drop 0 = dktX6_slip_0 := by decide +kernel
theorem dksX6_slip_1 : cX6_slip.data.toList.drop 23 = dktX6_slip_1 := dk_seg dksX6_slip_0 23 rfl rfl
theorem dX6_slip_0 : decode cX6_slip 0 = .ok (.aload_n 0, 1) := dk_42 (dk_at dksX6_slip_0 0 rfl rfl)
theorem dX6_slip_1 : decode cX6_slip 1 = .ok (.iconst 0, 1) := dk_3 (dk_at dksX6_slip_0 1 rfl rfl)
theorem dX6_slip_2 : decode cX6_slip 2 = .ok (.putfield 55, 3) := dk_181 0 55 (dk_at dksX6_slip_0 2 rfl rfl)
theorem dX6_slip_5 : decode cX6_slip 5 = .ok (.aload_n 0, 1) := dk_42 (dk_at dksX6_slip_0 5 rfl rfl)
theorem dX6_slip_6 : decode cX6_slip 6 = .ok (.iload_n 1, 1) := dk_27 (dk_at dksX6_slip_0 6 rfl rfl)
theorem dX6_slip_7 : decode cX6_slip 7 = .ok (.invokevirtual 330, 3) := dk_182 1 74 (dk_at dksX6_slip_0 7 rfl rfl)
theorem dX6_slip_10 : decode cX6_slip 10 = .ok (.ifCond .ne 24, 3) := dk_154 0 24 (dk_at dksX6_slip_0 10 rfl rfl)
theorem dX6_slip_13 : decode cX6_slip 13 = .ok (.aload_n 0, 1) := dk_42 (dk_at dksX6_slip_0 13 rfl rfl)
theorem dX6_slip_14 : decode cX6_slip 14 = .ok (.aload_n 0, 1) := dk_42 (dk_at dksX6_slip_0 14 rfl rfl)
theorem dX6_slip_15 : decode cX6_slip 15 = .ok (.iload_n 1, 1) := dk_27 (dk_at dksX6_slip_0 15 rfl rfl)
theorem dX6_slip_16 : decode cX6_slip 16 = .ok (.invokevirtual 290, 3) := dk_182 1 34 (dk_at dksX6_slip_0 16 rfl rfl)
theorem dX6_slip_19 : decode cX6_slip 19 = .ok (.ifCond .eq 7, 3) := dk_153 0 7 (dk_at dksX6_slip_0 19 rfl rfl)
theorem dX6_slip_22 : decode cX6_slip 22 = .ok (.iconst 1, 1) := dk_4 (dk_at dksX6_slip_0 22 rfl rfl)
theorem dX6_slip_23 : decode cX6_slip 23 = .ok (.goto 4, 3) := dk_167 0 4 (dk_at dksX6_slip_1 0 rfl rfl)
theorem dX6_slip_26 : decode cX6_slip 26 = .ok (.iconst 0, 1) := dk_3 (dk_at dksX6_slip_1 3 rfl rfl)
theorem dX6_slip_27 : decode cX6_slip 27 = .ok (.iconst 2, 1) := dk_5 (dk_at dksX6_slip_1 4 rfl rfl)
theorem dX6_slip_28 : decode cX6_slip 28 = .ok (.invokevirtual 314, 3) := dk_182 1 58 (dk_at dksX6_slip_1 5 rfl rfl)
theorem dX6_slip_31 : decode cX6_slip 31 = .ok (.ifCond .eq 5, 3) := dk_153 0 5 (dk_at dksX6_slip_1 8 rfl rfl)
theorem dX6_slip_34 : decode cX6_slip 34 = .ok (.iconst 0, 1) := dk_3 (dk_at dksX6_slip_1 11 rfl rfl)
theorem dX6_slip_35 : decode cX6_slip 35 = .ok (.ireturn, 1) := dk_172 (dk_at dksX6_slip_1 12 rfl rfl)
theorem dX6_slip_36 : decode cX6_slip 36 = .ok (.aload_n 0, 1) := dk_42 (dk_at dksX6_slip_1 13 rfl rfl)
theorem dX6_slip_37 : decode cX6_slip 37 = .ok (.invokevirtual 308, 3) := dk_182 1 52 (dk_at dksX6_slip_1 14 rfl rfl)
theorem dX6_slip_40 : decode cX6_slip 40 = .ok (.aload_n 0, 1) := dk_42 (dk_at dksX6_slip_1 17 rfl rfl)
theorem dX6_slip_41 : decode cX6_slip 41 = .ok (.iload_n 1, 1) := dk_27 (dk_at dksX6_slip_1 18 rfl rfl)
theorem dX6_slip_42 : decode cX6_slip 42 = .ok (.invokevirtual 293, 3) := dk_182 1 37 (dk_at dksX6_slip_1 19 rfl rfl)
theorem dX6_slip_45 : decode cX6_slip 45 = .ok (.ireturn, 1) := dk_172 (dk_at dksX6_slip_1 22 rfl rfl)
abbrev cX6_empty : ByteArray := prog_19_method_117_code
def yX6_empty : MethodName := ⟨RX6, "empty", "(I)I"⟩
def dkwX6_empty_1 : List UInt8 := [172]
abbrev dktX6_empty_1 : List UInt8 := dkwX6_empty_1 ++ []
def dkwX6_empty_0 : List UInt8 := [42, 3, 181, 0, 55, 42, 27, 182, 1, 77, 153, 0, 5, 3, 172, 42, 182, 1, 52, 42, 27, 182, 1, 40]
abbrev dktX6_empty_0 : List UInt8 := dkwX6_empty_0 ++ dktX6_empty_1
theorem dksX6_empty_0 : cX6_empty.data.toList.drop 0 = dktX6_empty_0 := by decide +kernel
theorem dksX6_empty_1 : cX6_empty.data.toList.drop 24 = dktX6_empty_1 := dk_seg dksX6_empty_0 24 rfl rfl
theorem dX6_empty_0 : decode cX6_empty 0 = .ok (.aload_n 0, 1) := dk_42 (dk_at dksX6_empty_0 0 rfl rfl)
theorem dX6_empty_1 : decode cX6_empty 1 = .ok (.iconst 0, 1) := dk_3 (dk_at dksX6_empty_0 1 rfl rfl)
theorem dX6_empty_2 : decode cX6_empty 2 = .ok (.putfield 55, 3) := dk_181 0 55 (dk_at dksX6_empty_0 2 rfl rfl)
theorem dX6_empty_5 : decode cX6_empty 5 = .ok (.aload_n 0, 1) := dk_42 (dk_at dksX6_empty_0 5 rfl rfl)
theorem dX6_empty_6 : decode cX6_empty 6 = .ok (.iload_n 1, 1) := dk_27 (dk_at dksX6_empty_0 6 rfl rfl)
theorem dX6_empty_7 : decode cX6_empty 7 = .ok (.invokevirtual 333, 3) := dk_182 1 77 (dk_at dksX6_empty_0 7 rfl rfl)
theorem dX6_empty_10 : decode cX6_empty 10 = .ok (.ifCond .eq 5, 3) := dk_153 0 5 (dk_at dksX6_empty_0 10 rfl rfl)
theorem dX6_empty_13 : decode cX6_empty 13 = .ok (.iconst 0, 1) := dk_3 (dk_at dksX6_empty_0 13 rfl rfl)
theorem dX6_empty_14 : decode cX6_empty 14 = .ok (.ireturn, 1) := dk_172 (dk_at dksX6_empty_0 14 rfl rfl)
theorem dX6_empty_15 : decode cX6_empty 15 = .ok (.aload_n 0, 1) := dk_42 (dk_at dksX6_empty_0 15 rfl rfl)
theorem dX6_empty_16 : decode cX6_empty 16 = .ok (.invokevirtual 308, 3) := dk_182 1 52 (dk_at dksX6_empty_0 16 rfl rfl)
theorem dX6_empty_19 : decode cX6_empty 19 = .ok (.aload_n 0, 1) := dk_42 (dk_at dksX6_empty_0 19 rfl rfl)
theorem dX6_empty_20 : decode cX6_empty 20 = .ok (.iload_n 1, 1) := dk_27 (dk_at dksX6_empty_0 20 rfl rfl)
theorem dX6_empty_21 : decode cX6_empty 21 = .ok (.invokevirtual 296, 3) := dk_182 1 40 (dk_at dksX6_empty_0 21 rfl rfl)
theorem dX6_empty_24 : decode cX6_empty 24 = .ok (.ireturn, 1) := dk_172 (dk_at dksX6_empty_1 0 rfl rfl)
abbrev cX6_shut : ByteArray := prog_19_method_118_code
def yX6_shut : MethodName := ⟨RX6, "shut", "(IZ)I"⟩
def dkwX6_shut_1 : List UInt8 := [184, 0, 81, 182, 1, 43, 172]
abbrev dktX6_shut_1 : List UInt8 := dkwX6_shut_1 ++ []
def dkwX6_shut_0 : List UInt8 := [42, 3, 181, 0, 55, 42, 27, 182, 1, 77, 153, 0, 5, 3, 172, 42, 182, 1, 52, 42, 27, 28]
abbrev dktX6_shut_0 : List UInt8 := dkwX6_shut_0 ++ dktX6_shut_1
theorem dksX6_shut_0 : cX6_shut.data.toList.drop 0 = dktX6_shut_0 := by decide +kernel
theorem dksX6_shut_1 : cX6_shut.data.toList.drop 22 = dktX6_shut_1 := dk_seg dksX6_shut_0 22 rfl rfl
theorem dX6_shut_0 : decode cX6_shut 0 = .ok (.aload_n 0, 1) := dk_42 (dk_at dksX6_shut_0 0 rfl rfl)
theorem dX6_shut_1 : decode cX6_shut 1 = .ok (.iconst 0, 1) := dk_3 (dk_at dksX6_shut_0 1 rfl rfl)
theorem dX6_shut_2 : decode cX6_shut 2 = .ok (.putfield 55, 3) := dk_181 0 55 (dk_at dksX6_shut_0 2 rfl rfl)
theorem dX6_shut_5 : decode cX6_shut 5 = .ok (.aload_n 0, 1) := dk_42 (dk_at dksX6_shut_0 5 rfl rfl)
theorem dX6_shut_6 : decode cX6_shut 6 = .ok (.iload_n 1, 1) := dk_27 (dk_at dksX6_shut_0 6 rfl rfl)
theorem dX6_shut_7 : decode cX6_shut 7 = .ok (.invokevirtual 333, 3) := dk_182 1 77 (dk_at dksX6_shut_0 7 rfl rfl)
theorem dX6_shut_10 : decode cX6_shut 10 = .ok (.ifCond .eq 5, 3) := dk_153 0 5 (dk_at dksX6_shut_0 10 rfl rfl)
theorem dX6_shut_13 : decode cX6_shut 13 = .ok (.iconst 0, 1) := dk_3 (dk_at dksX6_shut_0 13 rfl rfl)
theorem dX6_shut_14 : decode cX6_shut 14 = .ok (.ireturn, 1) := dk_172 (dk_at dksX6_shut_0 14 rfl rfl)
theorem dX6_shut_15 : decode cX6_shut 15 = .ok (.aload_n 0, 1) := dk_42 (dk_at dksX6_shut_0 15 rfl rfl)
theorem dX6_shut_16 : decode cX6_shut 16 = .ok (.invokevirtual 308, 3) := dk_182 1 52 (dk_at dksX6_shut_0 16 rfl rfl)
theorem dX6_shut_19 : decode cX6_shut 19 = .ok (.aload_n 0, 1) := dk_42 (dk_at dksX6_shut_0 19 rfl rfl)
theorem dX6_shut_20 : decode cX6_shut 20 = .ok (.iload_n 1, 1) := dk_27 (dk_at dksX6_shut_0 20 rfl rfl)
theorem dX6_shut_21 : decode cX6_shut 21 = .ok (.iload_n 2, 1) := dk_28 (dk_at dksX6_shut_0 21 rfl rfl)
theorem dX6_shut_22 : decode cX6_shut 22 = .ok (.invokestatic 81, 3) := dk_184 0 81 (dk_at dksX6_shut_1 0 rfl rfl)
theorem dX6_shut_25 : decode cX6_shut 25 = .ok (.invokevirtual 299, 3) := dk_182 1 43 (dk_at dksX6_shut_1 3 rfl rfl)
theorem dX6_shut_28 : decode cX6_shut 28 = .ok (.ireturn, 1) := dk_172 (dk_at dksX6_shut_1 6 rfl rfl)
abbrev cX6_set : ByteArray := prog_19_method_119_code
def yX6_set : MethodName := ⟨RX6, "set", "(II)I"⟩
def dkwX6_set_3 : List UInt8 := [42, 27, 28, 182, 1, 46, 172]
abbrev dktX6_set_3 : List UInt8 := dkwX6_set_3 ++ []
def dkwX6_set_2 : List UInt8 := [184, 0, 152, 154, 0, 7, 4, 167, 0, 4, 3, 5, 182, 1, 58, 153, 0, 5, 3, 172, 42, 182, 1, 52]
abbrev dktX6_set_2 : List UInt8 := dkwX6_set_2 ++ dktX6_set_3
def dkwX6_set_1 : List UInt8 := [160, 0, 21, 28, 4, 16, 9, 184, 0, 152, 154, 0, 7, 4, 167, 0, 21, 3, 167, 0, 17, 28, 3, 6]
abbrev dktX6_set_1 : List UInt8 := dkwX6_set_1 ++ dktX6_set_2
def dkwX6_set_0 : List UInt8 := [42, 3, 181, 0, 55, 27, 2, 159, 0, 13, 42, 27, 182, 1, 77, 153, 0, 5, 3, 172, 42, 27, 2]
abbrev dktX6_set_0 : List UInt8 := dkwX6_set_0 ++ dktX6_set_1
theorem dksX6_set_0 : cX6_set.data.toList.drop 0 = dktX6_set_0 := by decide +kernel
theorem dksX6_set_1 : cX6_set.data.toList.drop 23 = dktX6_set_1 := dk_seg dksX6_set_0 23 rfl rfl
theorem dksX6_set_2 : cX6_set.data.toList.drop 47 = dktX6_set_2 := dk_seg dksX6_set_1 24 rfl rfl
theorem dksX6_set_3 : cX6_set.data.toList.drop 71 = dktX6_set_3 := dk_seg dksX6_set_2 24 rfl rfl
theorem dX6_set_0 : decode cX6_set 0 = .ok (.aload_n 0, 1) := dk_42 (dk_at dksX6_set_0 0 rfl rfl)
theorem dX6_set_1 : decode cX6_set 1 = .ok (.iconst 0, 1) := dk_3 (dk_at dksX6_set_0 1 rfl rfl)
theorem dX6_set_2 : decode cX6_set 2 = .ok (.putfield 55, 3) := dk_181 0 55 (dk_at dksX6_set_0 2 rfl rfl)
theorem dX6_set_5 : decode cX6_set 5 = .ok (.iload_n 1, 1) := dk_27 (dk_at dksX6_set_0 5 rfl rfl)
theorem dX6_set_6 : decode cX6_set 6 = .ok (.iconst (-1), 1) := dk_2 (dk_at dksX6_set_0 6 rfl rfl)
theorem dX6_set_7 : decode cX6_set 7 = .ok (.if_icmp .eq 13, 3) := dk_159 0 13 (dk_at dksX6_set_0 7 rfl rfl)
theorem dX6_set_10 : decode cX6_set 10 = .ok (.aload_n 0, 1) := dk_42 (dk_at dksX6_set_0 10 rfl rfl)
theorem dX6_set_11 : decode cX6_set 11 = .ok (.iload_n 1, 1) := dk_27 (dk_at dksX6_set_0 11 rfl rfl)
theorem dX6_set_12 : decode cX6_set 12 = .ok (.invokevirtual 333, 3) := dk_182 1 77 (dk_at dksX6_set_0 12 rfl rfl)
theorem dX6_set_15 : decode cX6_set 15 = .ok (.ifCond .eq 5, 3) := dk_153 0 5 (dk_at dksX6_set_0 15 rfl rfl)
theorem dX6_set_18 : decode cX6_set 18 = .ok (.iconst 0, 1) := dk_3 (dk_at dksX6_set_0 18 rfl rfl)
theorem dX6_set_19 : decode cX6_set 19 = .ok (.ireturn, 1) := dk_172 (dk_at dksX6_set_0 19 rfl rfl)
theorem dX6_set_20 : decode cX6_set 20 = .ok (.aload_n 0, 1) := dk_42 (dk_at dksX6_set_0 20 rfl rfl)
theorem dX6_set_21 : decode cX6_set 21 = .ok (.iload_n 1, 1) := dk_27 (dk_at dksX6_set_0 21 rfl rfl)
theorem dX6_set_22 : decode cX6_set 22 = .ok (.iconst (-1), 1) := dk_2 (dk_at dksX6_set_0 22 rfl rfl)
theorem dX6_set_23 : decode cX6_set 23 = .ok (.if_icmp .ne 21, 3) := dk_160 0 21 (dk_at dksX6_set_1 0 rfl rfl)
theorem dX6_set_26 : decode cX6_set 26 = .ok (.iload_n 2, 1) := dk_28 (dk_at dksX6_set_1 3 rfl rfl)
theorem dX6_set_27 : decode cX6_set 27 = .ok (.iconst 1, 1) := dk_4 (dk_at dksX6_set_1 4 rfl rfl)
theorem dX6_set_28 : decode cX6_set 28 = .ok (.bipush 9, 2) := dk_16 9 (dk_at dksX6_set_1 5 rfl rfl)
theorem dX6_set_30 : decode cX6_set 30 = .ok (.invokestatic 152, 3) := dk_184 0 152 (dk_at dksX6_set_1 7 rfl rfl)
theorem dX6_set_33 : decode cX6_set 33 = .ok (.ifCond .ne 7, 3) := dk_154 0 7 (dk_at dksX6_set_1 10 rfl rfl)
theorem dX6_set_36 : decode cX6_set 36 = .ok (.iconst 1, 1) := dk_4 (dk_at dksX6_set_1 13 rfl rfl)
theorem dX6_set_37 : decode cX6_set 37 = .ok (.goto 21, 3) := dk_167 0 21 (dk_at dksX6_set_1 14 rfl rfl)
theorem dX6_set_40 : decode cX6_set 40 = .ok (.iconst 0, 1) := dk_3 (dk_at dksX6_set_1 17 rfl rfl)
theorem dX6_set_41 : decode cX6_set 41 = .ok (.goto 17, 3) := dk_167 0 17 (dk_at dksX6_set_1 18 rfl rfl)
theorem dX6_set_44 : decode cX6_set 44 = .ok (.iload_n 2, 1) := dk_28 (dk_at dksX6_set_1 21 rfl rfl)
theorem dX6_set_45 : decode cX6_set 45 = .ok (.iconst 0, 1) := dk_3 (dk_at dksX6_set_1 22 rfl rfl)
theorem dX6_set_46 : decode cX6_set 46 = .ok (.iconst 3, 1) := dk_6 (dk_at dksX6_set_1 23 rfl rfl)
theorem dX6_set_47 : decode cX6_set 47 = .ok (.invokestatic 152, 3) := dk_184 0 152 (dk_at dksX6_set_2 0 rfl rfl)
theorem dX6_set_50 : decode cX6_set 50 = .ok (.ifCond .ne 7, 3) := dk_154 0 7 (dk_at dksX6_set_2 3 rfl rfl)
theorem dX6_set_53 : decode cX6_set 53 = .ok (.iconst 1, 1) := dk_4 (dk_at dksX6_set_2 6 rfl rfl)
theorem dX6_set_54 : decode cX6_set 54 = .ok (.goto 4, 3) := dk_167 0 4 (dk_at dksX6_set_2 7 rfl rfl)
theorem dX6_set_57 : decode cX6_set 57 = .ok (.iconst 0, 1) := dk_3 (dk_at dksX6_set_2 10 rfl rfl)
theorem dX6_set_58 : decode cX6_set 58 = .ok (.iconst 2, 1) := dk_5 (dk_at dksX6_set_2 11 rfl rfl)
theorem dX6_set_59 : decode cX6_set 59 = .ok (.invokevirtual 314, 3) := dk_182 1 58 (dk_at dksX6_set_2 12 rfl rfl)
theorem dX6_set_62 : decode cX6_set 62 = .ok (.ifCond .eq 5, 3) := dk_153 0 5 (dk_at dksX6_set_2 15 rfl rfl)
theorem dX6_set_65 : decode cX6_set 65 = .ok (.iconst 0, 1) := dk_3 (dk_at dksX6_set_2 18 rfl rfl)
theorem dX6_set_66 : decode cX6_set 66 = .ok (.ireturn, 1) := dk_172 (dk_at dksX6_set_2 19 rfl rfl)
theorem dX6_set_67 : decode cX6_set 67 = .ok (.aload_n 0, 1) := dk_42 (dk_at dksX6_set_2 20 rfl rfl)
theorem dX6_set_68 : decode cX6_set 68 = .ok (.invokevirtual 308, 3) := dk_182 1 52 (dk_at dksX6_set_2 21 rfl rfl)
theorem dX6_set_71 : decode cX6_set 71 = .ok (.aload_n 0, 1) := dk_42 (dk_at dksX6_set_3 0 rfl rfl)
theorem dX6_set_72 : decode cX6_set 72 = .ok (.iload_n 1, 1) := dk_27 (dk_at dksX6_set_3 1 rfl rfl)
theorem dX6_set_73 : decode cX6_set 73 = .ok (.iload_n 2, 1) := dk_28 (dk_at dksX6_set_3 2 rfl rfl)
theorem dX6_set_74 : decode cX6_set 74 = .ok (.invokevirtual 302, 3) := dk_182 1 46 (dk_at dksX6_set_3 3 rfl rfl)
theorem dX6_set_77 : decode cX6_set 77 = .ok (.ireturn, 1) := dk_172 (dk_at dksX6_set_3 6 rfl rfl)
abbrev cX6_undo : ByteArray := prog_19_method_120_code
def yX6_undo : MethodName := ⟨RX6, "undo", "()I"⟩
def dkwX6_undo_2 : List UInt8 := [180, 0, 139, 104, 42, 180, 0, 7, 3, 184, 0, 142, 42, 180, 0, 139, 172]
abbrev dktX6_undo_2 : List UInt8 := dkwX6_undo_2 ++ []
def dkwX6_undo_1 : List UInt8 := [153, 0, 5, 3, 172, 42, 89, 180, 0, 139, 4, 100, 181, 0, 139, 42, 180, 0, 22, 17, 2, 13, 42]
abbrev dktX6_undo_1 : List UInt8 := dkwX6_undo_1 ++ dktX6_undo_2
def dkwX6_undo_0 : List UInt8 := [42, 3, 181, 0, 55, 42, 42, 180, 0, 139, 154, 0, 7, 4, 167, 0, 4, 3, 4, 182, 1, 58]
abbrev dktX6_undo_0 : List UInt8 := dkwX6_undo_0 ++ dktX6_undo_1
theorem dksX6_undo_0 : cX6_undo.data.toList.drop 0 = dktX6_undo_0 := by decide +kernel
theorem dksX6_undo_1 : cX6_undo.data.toList.drop 22 = dktX6_undo_1 := dk_seg dksX6_undo_0 22 rfl rfl
theorem dksX6_undo_2 : cX6_undo.data.toList.drop 45 = dktX6_undo_2 := dk_seg dksX6_undo_1 23 rfl rfl
theorem dX6_undo_0 : decode cX6_undo 0 = .ok (.aload_n 0, 1) := dk_42 (dk_at dksX6_undo_0 0 rfl rfl)
theorem dX6_undo_1 : decode cX6_undo 1 = .ok (.iconst 0, 1) := dk_3 (dk_at dksX6_undo_0 1 rfl rfl)
theorem dX6_undo_2 : decode cX6_undo 2 = .ok (.putfield 55, 3) := dk_181 0 55 (dk_at dksX6_undo_0 2 rfl rfl)
theorem dX6_undo_5 : decode cX6_undo 5 = .ok (.aload_n 0, 1) := dk_42 (dk_at dksX6_undo_0 5 rfl rfl)
theorem dX6_undo_6 : decode cX6_undo 6 = .ok (.aload_n 0, 1) := dk_42 (dk_at dksX6_undo_0 6 rfl rfl)
theorem dX6_undo_7 : decode cX6_undo 7 = .ok (.getfield 139, 3) := dk_180 0 139 (dk_at dksX6_undo_0 7 rfl rfl)
theorem dX6_undo_10 : decode cX6_undo 10 = .ok (.ifCond .ne 7, 3) := dk_154 0 7 (dk_at dksX6_undo_0 10 rfl rfl)
theorem dX6_undo_13 : decode cX6_undo 13 = .ok (.iconst 1, 1) := dk_4 (dk_at dksX6_undo_0 13 rfl rfl)
theorem dX6_undo_14 : decode cX6_undo 14 = .ok (.goto 4, 3) := dk_167 0 4 (dk_at dksX6_undo_0 14 rfl rfl)
theorem dX6_undo_17 : decode cX6_undo 17 = .ok (.iconst 0, 1) := dk_3 (dk_at dksX6_undo_0 17 rfl rfl)
theorem dX6_undo_18 : decode cX6_undo 18 = .ok (.iconst 1, 1) := dk_4 (dk_at dksX6_undo_0 18 rfl rfl)
theorem dX6_undo_19 : decode cX6_undo 19 = .ok (.invokevirtual 314, 3) := dk_182 1 58 (dk_at dksX6_undo_0 19 rfl rfl)
theorem dX6_undo_22 : decode cX6_undo 22 = .ok (.ifCond .eq 5, 3) := dk_153 0 5 (dk_at dksX6_undo_1 0 rfl rfl)
theorem dX6_undo_25 : decode cX6_undo 25 = .ok (.iconst 0, 1) := dk_3 (dk_at dksX6_undo_1 3 rfl rfl)
theorem dX6_undo_26 : decode cX6_undo 26 = .ok (.ireturn, 1) := dk_172 (dk_at dksX6_undo_1 4 rfl rfl)
theorem dX6_undo_27 : decode cX6_undo 27 = .ok (.aload_n 0, 1) := dk_42 (dk_at dksX6_undo_1 5 rfl rfl)
theorem dX6_undo_28 : decode cX6_undo 28 = .ok (.dup, 1) := dk_89 (dk_at dksX6_undo_1 6 rfl rfl)
theorem dX6_undo_29 : decode cX6_undo 29 = .ok (.getfield 139, 3) := dk_180 0 139 (dk_at dksX6_undo_1 7 rfl rfl)
theorem dX6_undo_32 : decode cX6_undo 32 = .ok (.iconst 1, 1) := dk_4 (dk_at dksX6_undo_1 10 rfl rfl)
theorem dX6_undo_33 : decode cX6_undo 33 = .ok (.isub, 1) := dk_100 (dk_at dksX6_undo_1 11 rfl rfl)
theorem dX6_undo_34 : decode cX6_undo 34 = .ok (.putfield 139, 3) := dk_181 0 139 (dk_at dksX6_undo_1 12 rfl rfl)
theorem dX6_undo_37 : decode cX6_undo 37 = .ok (.aload_n 0, 1) := dk_42 (dk_at dksX6_undo_1 15 rfl rfl)
theorem dX6_undo_38 : decode cX6_undo 38 = .ok (.getfield 22, 3) := dk_180 0 22 (dk_at dksX6_undo_1 16 rfl rfl)
theorem dX6_undo_41 : decode cX6_undo 41 = .ok (.sipush 525, 3) := dk_17 2 13 (dk_at dksX6_undo_1 19 rfl rfl)
theorem dX6_undo_44 : decode cX6_undo 44 = .ok (.aload_n 0, 1) := dk_42 (dk_at dksX6_undo_1 22 rfl rfl)
theorem dX6_undo_45 : decode cX6_undo 45 = .ok (.getfield 139, 3) := dk_180 0 139 (dk_at dksX6_undo_2 0 rfl rfl)
theorem dX6_undo_48 : decode cX6_undo 48 = .ok (.imul, 1) := dk_104 (dk_at dksX6_undo_2 3 rfl rfl)
theorem dX6_undo_49 : decode cX6_undo 49 = .ok (.aload_n 0, 1) := dk_42 (dk_at dksX6_undo_2 4 rfl rfl)
theorem dX6_undo_50 : decode cX6_undo 50 = .ok (.getfield 7, 3) := dk_180 0 7 (dk_at dksX6_undo_2 5 rfl rfl)
theorem dX6_undo_53 : decode cX6_undo 53 = .ok (.iconst 0, 1) := dk_3 (dk_at dksX6_undo_2 8 rfl rfl)
theorem dX6_undo_54 : decode cX6_undo 54 = .ok (.invokestatic 142, 3) := dk_184 0 142 (dk_at dksX6_undo_2 9 rfl rfl)
theorem dX6_undo_57 : decode cX6_undo 57 = .ok (.aload_n 0, 1) := dk_42 (dk_at dksX6_undo_2 12 rfl rfl)
theorem dX6_undo_58 : decode cX6_undo 58 = .ok (.getfield 139, 3) := dk_180 0 139 (dk_at dksX6_undo_2 13 rfl rfl)
theorem dX6_undo_61 : decode cX6_undo 61 = .ok (.ireturn, 1) := dk_172 (dk_at dksX6_undo_2 16 rfl rfl)
abbrev cX6_printLoop : ByteArray := prog_19_method_124_code
def yX6_printLoop : MethodName := ⟨RX6, "printLoop", "()I"⟩
def dkwX6_printLoop_1 : List UInt8 := [42, 27, 182, 0, 101, 182, 1, 137, 182, 1, 134, 132, 1, 1, 167, 255, 230, 42, 180, 1, 131, 172]
abbrev dktX6_printLoop_1 : List UInt8 := dkwX6_printLoop_1 ++ []
def dkwX6_printLoop_0 : List UInt8 := [42, 3, 181, 0, 55, 42, 3, 181, 1, 131, 3, 60, 27, 42, 180, 0, 7, 3, 46, 162, 0, 22, 42, 42]
abbrev dktX6_printLoop_0 : List UInt8 := dkwX6_printLoop_0 ++ dktX6_printLoop_1
theorem dksX6_printLoop_0 : cX6_printLoop.data.toList.drop 0 = dktX6_printLoop_0 := by decide +kernel
theorem dksX6_printLoop_1 : cX6_printLoop.data.toList.drop 24 = dktX6_printLoop_1 := dk_seg dksX6_printLoop_0 24 rfl rfl
theorem dX6_printLoop_0 : decode cX6_printLoop 0 = .ok (.aload_n 0, 1) := dk_42 (dk_at dksX6_printLoop_0 0 rfl rfl)
theorem dX6_printLoop_1 : decode cX6_printLoop 1 = .ok (.iconst 0, 1) := dk_3 (dk_at dksX6_printLoop_0 1 rfl rfl)
theorem dX6_printLoop_2 : decode cX6_printLoop 2 = .ok (.putfield 55, 3) := dk_181 0 55 (dk_at dksX6_printLoop_0 2 rfl rfl)
theorem dX6_printLoop_5 : decode cX6_printLoop 5 = .ok (.aload_n 0, 1) := dk_42 (dk_at dksX6_printLoop_0 5 rfl rfl)
theorem dX6_printLoop_6 : decode cX6_printLoop 6 = .ok (.iconst 0, 1) := dk_3 (dk_at dksX6_printLoop_0 6 rfl rfl)
theorem dX6_printLoop_7 : decode cX6_printLoop 7 = .ok (.putfield 387, 3) := dk_181 1 131 (dk_at dksX6_printLoop_0 7 rfl rfl)
theorem dX6_printLoop_10 : decode cX6_printLoop 10 = .ok (.iconst 0, 1) := dk_3 (dk_at dksX6_printLoop_0 10 rfl rfl)
theorem dX6_printLoop_11 : decode cX6_printLoop 11 = .ok (.istore_n 1, 1) := dk_60 (dk_at dksX6_printLoop_0 11 rfl rfl)
theorem dX6_printLoop_12 : decode cX6_printLoop 12 = .ok (.iload_n 1, 1) := dk_27 (dk_at dksX6_printLoop_0 12 rfl rfl)
theorem dX6_printLoop_13 : decode cX6_printLoop 13 = .ok (.aload_n 0, 1) := dk_42 (dk_at dksX6_printLoop_0 13 rfl rfl)
theorem dX6_printLoop_14 : decode cX6_printLoop 14 = .ok (.getfield 7, 3) := dk_180 0 7 (dk_at dksX6_printLoop_0 14 rfl rfl)
theorem dX6_printLoop_17 : decode cX6_printLoop 17 = .ok (.iconst 0, 1) := dk_3 (dk_at dksX6_printLoop_0 17 rfl rfl)
theorem dX6_printLoop_18 : decode cX6_printLoop 18 = .ok (.iaload, 1) := dk_46 (dk_at dksX6_printLoop_0 18 rfl rfl)
theorem dX6_printLoop_19 : decode cX6_printLoop 19 = .ok (.if_icmp .ge 22, 3) := dk_162 0 22 (dk_at dksX6_printLoop_0 19 rfl rfl)
theorem dX6_printLoop_22 : decode cX6_printLoop 22 = .ok (.aload_n 0, 1) := dk_42 (dk_at dksX6_printLoop_0 22 rfl rfl)
theorem dX6_printLoop_23 : decode cX6_printLoop 23 = .ok (.aload_n 0, 1) := dk_42 (dk_at dksX6_printLoop_0 23 rfl rfl)
theorem dX6_printLoop_24 : decode cX6_printLoop 24 = .ok (.aload_n 0, 1) := dk_42 (dk_at dksX6_printLoop_1 0 rfl rfl)
theorem dX6_printLoop_25 : decode cX6_printLoop 25 = .ok (.iload_n 1, 1) := dk_27 (dk_at dksX6_printLoop_1 1 rfl rfl)
theorem dX6_printLoop_26 : decode cX6_printLoop 26 = .ok (.invokevirtual 101, 3) := dk_182 0 101 (dk_at dksX6_printLoop_1 2 rfl rfl)
theorem dX6_printLoop_29 : decode cX6_printLoop 29 = .ok (.invokevirtual 393, 3) := dk_182 1 137 (dk_at dksX6_printLoop_1 5 rfl rfl)
theorem dX6_printLoop_32 : decode cX6_printLoop 32 = .ok (.invokevirtual 390, 3) := dk_182 1 134 (dk_at dksX6_printLoop_1 8 rfl rfl)
theorem dX6_printLoop_35 : decode cX6_printLoop 35 = .ok (.iinc 1 1, 3) := dk_132 1 1 (dk_at dksX6_printLoop_1 11 rfl rfl)
theorem dX6_printLoop_38 : decode cX6_printLoop 38 = .ok (.goto (-26), 3) := dk_167 255 230 (dk_at dksX6_printLoop_1 14 rfl rfl)
theorem dX6_printLoop_41 : decode cX6_printLoop 41 = .ok (.aload_n 0, 1) := dk_42 (dk_at dksX6_printLoop_1 17 rfl rfl)
theorem dX6_printLoop_42 : decode cX6_printLoop 42 = .ok (.getfield 387, 3) := dk_180 1 131 (dk_at dksX6_printLoop_1 18 rfl rfl)
theorem dX6_printLoop_45 : decode cX6_printLoop 45 = .ok (.ireturn, 1) := dk_172 (dk_at dksX6_printLoop_1 21 rfl rfl)
abbrev cX6_signOf : ByteArray := prog_19_method_123_code
def yX6_signOf : MethodName := ⟨RX6, "signOf", "(I)I"⟩
def dkwX6_signOf_2 : List UInt8 := [167, 0, 5, 16, 33, 172]
abbrev dktX6_signOf_2 : List UInt8 := dkwX6_signOf_2 ++ []
def dkwX6_signOf_1 : List UInt8 := [182, 0, 104, 153, 0, 23, 42, 27, 182, 0, 94, 154, 0, 15, 16, 48, 42, 27, 3, 182, 0, 62, 96]
abbrev dktX6_signOf_1 : List UInt8 := dkwX6_signOf_1 ++ dktX6_signOf_2
def dkwX6_signOf_0 : List UInt8 := [27, 2, 160, 0, 6, 16, 46, 172, 42, 27, 4, 182, 0, 62, 158, 0, 6, 16, 63, 172, 42, 27]
abbrev dktX6_signOf_0 : List UInt8 := dkwX6_signOf_0 ++ dktX6_signOf_1
theorem dksX6_signOf_0 : cX6_signOf.data.toList.drop 0 = dktX6_signOf_0 := by decide +kernel
theorem dksX6_signOf_1 : cX6_signOf.data.toList.drop 22 = dktX6_signOf_1 := dk_seg dksX6_signOf_0 22 rfl rfl
theorem dksX6_signOf_2 : cX6_signOf.data.toList.drop 45 = dktX6_signOf_2 := dk_seg dksX6_signOf_1 23 rfl rfl
theorem dX6_signOf_0 : decode cX6_signOf 0 = .ok (.iload_n 1, 1) := dk_27 (dk_at dksX6_signOf_0 0 rfl rfl)
theorem dX6_signOf_1 : decode cX6_signOf 1 = .ok (.iconst (-1), 1) := dk_2 (dk_at dksX6_signOf_0 1 rfl rfl)
theorem dX6_signOf_2 : decode cX6_signOf 2 = .ok (.if_icmp .ne 6, 3) := dk_160 0 6 (dk_at dksX6_signOf_0 2 rfl rfl)
theorem dX6_signOf_5 : decode cX6_signOf 5 = .ok (.bipush 46, 2) := dk_16 46 (dk_at dksX6_signOf_0 5 rfl rfl)
theorem dX6_signOf_7 : decode cX6_signOf 7 = .ok (.ireturn, 1) := dk_172 (dk_at dksX6_signOf_0 7 rfl rfl)
theorem dX6_signOf_8 : decode cX6_signOf 8 = .ok (.aload_n 0, 1) := dk_42 (dk_at dksX6_signOf_0 8 rfl rfl)
theorem dX6_signOf_9 : decode cX6_signOf 9 = .ok (.iload_n 1, 1) := dk_27 (dk_at dksX6_signOf_0 9 rfl rfl)
theorem dX6_signOf_10 : decode cX6_signOf 10 = .ok (.iconst 1, 1) := dk_4 (dk_at dksX6_signOf_0 10 rfl rfl)
theorem dX6_signOf_11 : decode cX6_signOf 11 = .ok (.invokevirtual 62, 3) := dk_182 0 62 (dk_at dksX6_signOf_0 11 rfl rfl)
theorem dX6_signOf_14 : decode cX6_signOf 14 = .ok (.ifCond .le 6, 3) := dk_158 0 6 (dk_at dksX6_signOf_0 14 rfl rfl)
theorem dX6_signOf_17 : decode cX6_signOf 17 = .ok (.bipush 63, 2) := dk_16 63 (dk_at dksX6_signOf_0 17 rfl rfl)
theorem dX6_signOf_19 : decode cX6_signOf 19 = .ok (.ireturn, 1) := dk_172 (dk_at dksX6_signOf_0 19 rfl rfl)
theorem dX6_signOf_20 : decode cX6_signOf 20 = .ok (.aload_n 0, 1) := dk_42 (dk_at dksX6_signOf_0 20 rfl rfl)
theorem dX6_signOf_21 : decode cX6_signOf 21 = .ok (.iload_n 1, 1) := dk_27 (dk_at dksX6_signOf_0 21 rfl rfl)
theorem dX6_signOf_22 : decode cX6_signOf 22 = .ok (.invokevirtual 104, 3) := dk_182 0 104 (dk_at dksX6_signOf_1 0 rfl rfl)
theorem dX6_signOf_25 : decode cX6_signOf 25 = .ok (.ifCond .eq 23, 3) := dk_153 0 23 (dk_at dksX6_signOf_1 3 rfl rfl)
theorem dX6_signOf_28 : decode cX6_signOf 28 = .ok (.aload_n 0, 1) := dk_42 (dk_at dksX6_signOf_1 6 rfl rfl)
theorem dX6_signOf_29 : decode cX6_signOf 29 = .ok (.iload_n 1, 1) := dk_27 (dk_at dksX6_signOf_1 7 rfl rfl)
theorem dX6_signOf_30 : decode cX6_signOf 30 = .ok (.invokevirtual 94, 3) := dk_182 0 94 (dk_at dksX6_signOf_1 8 rfl rfl)
theorem dX6_signOf_33 : decode cX6_signOf 33 = .ok (.ifCond .ne 15, 3) := dk_154 0 15 (dk_at dksX6_signOf_1 11 rfl rfl)
theorem dX6_signOf_36 : decode cX6_signOf 36 = .ok (.bipush 48, 2) := dk_16 48 (dk_at dksX6_signOf_1 14 rfl rfl)
theorem dX6_signOf_38 : decode cX6_signOf 38 = .ok (.aload_n 0, 1) := dk_42 (dk_at dksX6_signOf_1 16 rfl rfl)
theorem dX6_signOf_39 : decode cX6_signOf 39 = .ok (.iload_n 1, 1) := dk_27 (dk_at dksX6_signOf_1 17 rfl rfl)
theorem dX6_signOf_40 : decode cX6_signOf 40 = .ok (.iconst 0, 1) := dk_3 (dk_at dksX6_signOf_1 18 rfl rfl)
theorem dX6_signOf_41 : decode cX6_signOf 41 = .ok (.invokevirtual 62, 3) := dk_182 0 62 (dk_at dksX6_signOf_1 19 rfl rfl)
theorem dX6_signOf_44 : decode cX6_signOf 44 = .ok (.iadd, 1) := dk_96 (dk_at dksX6_signOf_1 22 rfl rfl)
theorem dX6_signOf_45 : decode cX6_signOf 45 = .ok (.goto 5, 3) := dk_167 0 5 (dk_at dksX6_signOf_2 0 rfl rfl)
theorem dX6_signOf_48 : decode cX6_signOf 48 = .ok (.bipush 33, 2) := dk_16 33 (dk_at dksX6_signOf_2 3 rfl rfl)
theorem dX6_signOf_50 : decode cX6_signOf 50 = .ok (.ireturn, 1) := dk_172 (dk_at dksX6_signOf_2 5 rfl rfl)
abbrev cX6_write : ByteArray := prog_19_method_121_code
def yX6_write : MethodName := ⟨RX6, "write", "(I)V"⟩
def dkwX6_write_0 : List UInt8 := [42, 180, 0, 44, 42, 180, 1, 131, 27, 79, 42, 89, 180, 1, 131, 4, 96, 181, 1, 131, 177]
abbrev dktX6_write_0 : List UInt8 := dkwX6_write_0 ++ []
theorem dksX6_write_0 : cX6_write.data.toList.drop 0 = dktX6_write_0 := by decide +kernel
theorem dX6_write_0 : decode cX6_write 0 = .ok (.aload_n 0, 1) := dk_42 (dk_at dksX6_write_0 0 rfl rfl)
theorem dX6_write_1 : decode cX6_write 1 = .ok (.getfield 44, 3) := dk_180 0 44 (dk_at dksX6_write_0 1 rfl rfl)
theorem dX6_write_4 : decode cX6_write 4 = .ok (.aload_n 0, 1) := dk_42 (dk_at dksX6_write_0 4 rfl rfl)
theorem dX6_write_5 : decode cX6_write 5 = .ok (.getfield 387, 3) := dk_180 1 131 (dk_at dksX6_write_0 5 rfl rfl)
theorem dX6_write_8 : decode cX6_write 8 = .ok (.iload_n 1, 1) := dk_27 (dk_at dksX6_write_0 8 rfl rfl)
theorem dX6_write_9 : decode cX6_write 9 = .ok (.iastore, 1) := dk_79 (dk_at dksX6_write_0 9 rfl rfl)
theorem dX6_write_10 : decode cX6_write 10 = .ok (.aload_n 0, 1) := dk_42 (dk_at dksX6_write_0 10 rfl rfl)
theorem dX6_write_11 : decode cX6_write 11 = .ok (.dup, 1) := dk_89 (dk_at dksX6_write_0 11 rfl rfl)
theorem dX6_write_12 : decode cX6_write 12 = .ok (.getfield 387, 3) := dk_180 1 131 (dk_at dksX6_write_0 12 rfl rfl)
theorem dX6_write_15 : decode cX6_write 15 = .ok (.iconst 1, 1) := dk_4 (dk_at dksX6_write_0 15 rfl rfl)
theorem dX6_write_16 : decode cX6_write 16 = .ok (.iadd, 1) := dk_96 (dk_at dksX6_write_0 16 rfl rfl)
theorem dX6_write_17 : decode cX6_write 17 = .ok (.putfield 387, 3) := dk_181 1 131 (dk_at dksX6_write_0 17 rfl rfl)
theorem dX6_write_20 : decode cX6_write 20 = .ok (.return_, 1) := dk_177 (dk_at dksX6_write_0 20 rfl rfl)
abbrev cX6_printChutes : ByteArray := prog_19_method_125_code
def yX6_printChutes : MethodName := ⟨RX6, "printChutes", "()I"⟩
def dkwX6_printChutes_4 : List UInt8 := [182, 1, 140, 132, 2, 1, 167, 255, 219, 132, 1, 1, 167, 255, 165, 42, 180, 1, 131, 172]
abbrev dktX6_printChutes_4 : List UInt8 := dkwX6_printChutes_4 ++ []
def dkwX6_printChutes_3 : List UInt8 := [162, 0, 32, 28, 158, 0, 9, 42, 16, 44, 182, 1, 134, 42, 42, 27, 16, 8, 28, 96, 182, 0, 78]
abbrev dktX6_printChutes_3 : List UInt8 := dkwX6_printChutes_3 ++ dktX6_printChutes_4
def dkwX6_printChutes_2 : List UInt8 := [160, 0, 8, 16, 58, 167, 0, 5, 16, 120, 182, 1, 134, 3, 61, 28, 42, 27, 16, 6, 182, 0, 78]
abbrev dktX6_printChutes_2 : List UInt8 := dkwX6_printChutes_2 ++ dktX6_printChutes_3
def dkwX6_printChutes_1 : List UInt8 := [158, 0, 9, 42, 16, 32, 182, 1, 134, 42, 27, 182, 1, 140, 42, 42, 27, 8, 182, 0, 78, 4]
abbrev dktX6_printChutes_1 : List UInt8 := dkwX6_printChutes_1 ++ dktX6_printChutes_2
def dkwX6_printChutes_0 : List UInt8 := [42, 3, 181, 0, 55, 42, 3, 181, 1, 131, 3, 60, 27, 42, 180, 0, 7, 6, 46, 162, 0, 87, 27]
abbrev dktX6_printChutes_0 : List UInt8 := dkwX6_printChutes_0 ++ dktX6_printChutes_1
theorem dksX6_printChutes_0 : cX6_printChutes.data.toList.drop 0 = dktX6_printChutes_0 := by decide +kernel
theorem dksX6_printChutes_1 : cX6_printChutes.data.toList.drop 23 = dktX6_printChutes_1 := dk_seg dksX6_printChutes_0 23 rfl rfl
theorem dksX6_printChutes_2 : cX6_printChutes.data.toList.drop 45 = dktX6_printChutes_2 := dk_seg dksX6_printChutes_1 22 rfl rfl
theorem dksX6_printChutes_3 : cX6_printChutes.data.toList.drop 68 = dktX6_printChutes_3 := dk_seg dksX6_printChutes_2 23 rfl rfl
theorem dksX6_printChutes_4 : cX6_printChutes.data.toList.drop 91 = dktX6_printChutes_4 := dk_seg dksX6_printChutes_3 23 rfl rfl
theorem dX6_printChutes_0 : decode cX6_printChutes 0 = .ok (.aload_n 0, 1) := dk_42 (dk_at dksX6_printChutes_0 0 rfl rfl)
theorem dX6_printChutes_1 : decode cX6_printChutes 1 = .ok (.iconst 0, 1) := dk_3 (dk_at dksX6_printChutes_0 1 rfl rfl)
theorem dX6_printChutes_2 : decode cX6_printChutes 2 = .ok (.putfield 55, 3) := dk_181 0 55 (dk_at dksX6_printChutes_0 2 rfl rfl)
theorem dX6_printChutes_5 : decode cX6_printChutes 5 = .ok (.aload_n 0, 1) := dk_42 (dk_at dksX6_printChutes_0 5 rfl rfl)
theorem dX6_printChutes_6 : decode cX6_printChutes 6 = .ok (.iconst 0, 1) := dk_3 (dk_at dksX6_printChutes_0 6 rfl rfl)
theorem dX6_printChutes_7 : decode cX6_printChutes 7 = .ok (.putfield 387, 3) := dk_181 1 131 (dk_at dksX6_printChutes_0 7 rfl rfl)
theorem dX6_printChutes_10 : decode cX6_printChutes 10 = .ok (.iconst 0, 1) := dk_3 (dk_at dksX6_printChutes_0 10 rfl rfl)
theorem dX6_printChutes_11 : decode cX6_printChutes 11 = .ok (.istore_n 1, 1) := dk_60 (dk_at dksX6_printChutes_0 11 rfl rfl)
theorem dX6_printChutes_12 : decode cX6_printChutes 12 = .ok (.iload_n 1, 1) := dk_27 (dk_at dksX6_printChutes_0 12 rfl rfl)
theorem dX6_printChutes_13 : decode cX6_printChutes 13 = .ok (.aload_n 0, 1) := dk_42 (dk_at dksX6_printChutes_0 13 rfl rfl)
theorem dX6_printChutes_14 : decode cX6_printChutes 14 = .ok (.getfield 7, 3) := dk_180 0 7 (dk_at dksX6_printChutes_0 14 rfl rfl)
theorem dX6_printChutes_17 : decode cX6_printChutes 17 = .ok (.iconst 3, 1) := dk_6 (dk_at dksX6_printChutes_0 17 rfl rfl)
theorem dX6_printChutes_18 : decode cX6_printChutes 18 = .ok (.iaload, 1) := dk_46 (dk_at dksX6_printChutes_0 18 rfl rfl)
theorem dX6_printChutes_19 : decode cX6_printChutes 19 = .ok (.if_icmp .ge 87, 3) := dk_162 0 87 (dk_at dksX6_printChutes_0 19 rfl rfl)
theorem dX6_printChutes_22 : decode cX6_printChutes 22 = .ok (.iload_n 1, 1) := dk_27 (dk_at dksX6_printChutes_0 22 rfl rfl)
theorem dX6_printChutes_23 : decode cX6_printChutes 23 = .ok (.ifCond .le 9, 3) := dk_158 0 9 (dk_at dksX6_printChutes_1 0 rfl rfl)
theorem dX6_printChutes_26 : decode cX6_printChutes 26 = .ok (.aload_n 0, 1) := dk_42 (dk_at dksX6_printChutes_1 3 rfl rfl)
theorem dX6_printChutes_27 : decode cX6_printChutes 27 = .ok (.bipush 32, 2) := dk_16 32 (dk_at dksX6_printChutes_1 4 rfl rfl)
theorem dX6_printChutes_29 : decode cX6_printChutes 29 = .ok (.invokevirtual 390, 3) := dk_182 1 134 (dk_at dksX6_printChutes_1 6 rfl rfl)
theorem dX6_printChutes_32 : decode cX6_printChutes 32 = .ok (.aload_n 0, 1) := dk_42 (dk_at dksX6_printChutes_1 9 rfl rfl)
theorem dX6_printChutes_33 : decode cX6_printChutes 33 = .ok (.iload_n 1, 1) := dk_27 (dk_at dksX6_printChutes_1 10 rfl rfl)
theorem dX6_printChutes_34 : decode cX6_printChutes 34 = .ok (.invokevirtual 396, 3) := dk_182 1 140 (dk_at dksX6_printChutes_1 11 rfl rfl)
theorem dX6_printChutes_37 : decode cX6_printChutes 37 = .ok (.aload_n 0, 1) := dk_42 (dk_at dksX6_printChutes_1 14 rfl rfl)
theorem dX6_printChutes_38 : decode cX6_printChutes 38 = .ok (.aload_n 0, 1) := dk_42 (dk_at dksX6_printChutes_1 15 rfl rfl)
theorem dX6_printChutes_39 : decode cX6_printChutes 39 = .ok (.iload_n 1, 1) := dk_27 (dk_at dksX6_printChutes_1 16 rfl rfl)
theorem dX6_printChutes_40 : decode cX6_printChutes 40 = .ok (.iconst 5, 1) := dk_8 (dk_at dksX6_printChutes_1 17 rfl rfl)
theorem dX6_printChutes_41 : decode cX6_printChutes 41 = .ok (.invokevirtual 78, 3) := dk_182 0 78 (dk_at dksX6_printChutes_1 18 rfl rfl)
theorem dX6_printChutes_44 : decode cX6_printChutes 44 = .ok (.iconst 1, 1) := dk_4 (dk_at dksX6_printChutes_1 21 rfl rfl)
theorem dX6_printChutes_45 : decode cX6_printChutes 45 = .ok (.if_icmp .ne 8, 3) := dk_160 0 8 (dk_at dksX6_printChutes_2 0 rfl rfl)
theorem dX6_printChutes_48 : decode cX6_printChutes 48 = .ok (.bipush 58, 2) := dk_16 58 (dk_at dksX6_printChutes_2 3 rfl rfl)
theorem dX6_printChutes_50 : decode cX6_printChutes 50 = .ok (.goto 5, 3) := dk_167 0 5 (dk_at dksX6_printChutes_2 5 rfl rfl)
theorem dX6_printChutes_53 : decode cX6_printChutes 53 = .ok (.bipush 120, 2) := dk_16 120 (dk_at dksX6_printChutes_2 8 rfl rfl)
theorem dX6_printChutes_55 : decode cX6_printChutes 55 = .ok (.invokevirtual 390, 3) := dk_182 1 134 (dk_at dksX6_printChutes_2 10 rfl rfl)
theorem dX6_printChutes_58 : decode cX6_printChutes 58 = .ok (.iconst 0, 1) := dk_3 (dk_at dksX6_printChutes_2 13 rfl rfl)
theorem dX6_printChutes_59 : decode cX6_printChutes 59 = .ok (.istore_n 2, 1) := dk_61 (dk_at dksX6_printChutes_2 14 rfl rfl)
theorem dX6_printChutes_60 : decode cX6_printChutes 60 = .ok (.iload_n 2, 1) := dk_28 (dk_at dksX6_printChutes_2 15 rfl rfl)
theorem dX6_printChutes_61 : decode cX6_printChutes 61 = .ok (.aload_n 0, 1) := dk_42 (dk_at dksX6_printChutes_2 16 rfl rfl)
theorem dX6_printChutes_62 : decode cX6_printChutes 62 = .ok (.iload_n 1, 1) := dk_27 (dk_at dksX6_printChutes_2 17 rfl rfl)
theorem dX6_printChutes_63 : decode cX6_printChutes 63 = .ok (.bipush 6, 2) := dk_16 6 (dk_at dksX6_printChutes_2 18 rfl rfl)
theorem dX6_printChutes_65 : decode cX6_printChutes 65 = .ok (.invokevirtual 78, 3) := dk_182 0 78 (dk_at dksX6_printChutes_2 20 rfl rfl)
theorem dX6_printChutes_68 : decode cX6_printChutes 68 = .ok (.if_icmp .ge 32, 3) := dk_162 0 32 (dk_at dksX6_printChutes_3 0 rfl rfl)
theorem dX6_printChutes_71 : decode cX6_printChutes 71 = .ok (.iload_n 2, 1) := dk_28 (dk_at dksX6_printChutes_3 3 rfl rfl)
theorem dX6_printChutes_72 : decode cX6_printChutes 72 = .ok (.ifCond .le 9, 3) := dk_158 0 9 (dk_at dksX6_printChutes_3 4 rfl rfl)
theorem dX6_printChutes_75 : decode cX6_printChutes 75 = .ok (.aload_n 0, 1) := dk_42 (dk_at dksX6_printChutes_3 7 rfl rfl)
theorem dX6_printChutes_76 : decode cX6_printChutes 76 = .ok (.bipush 44, 2) := dk_16 44 (dk_at dksX6_printChutes_3 8 rfl rfl)
theorem dX6_printChutes_78 : decode cX6_printChutes 78 = .ok (.invokevirtual 390, 3) := dk_182 1 134 (dk_at dksX6_printChutes_3 10 rfl rfl)
theorem dX6_printChutes_81 : decode cX6_printChutes 81 = .ok (.aload_n 0, 1) := dk_42 (dk_at dksX6_printChutes_3 13 rfl rfl)
theorem dX6_printChutes_82 : decode cX6_printChutes 82 = .ok (.aload_n 0, 1) := dk_42 (dk_at dksX6_printChutes_3 14 rfl rfl)
theorem dX6_printChutes_83 : decode cX6_printChutes 83 = .ok (.iload_n 1, 1) := dk_27 (dk_at dksX6_printChutes_3 15 rfl rfl)
theorem dX6_printChutes_84 : decode cX6_printChutes 84 = .ok (.bipush 8, 2) := dk_16 8 (dk_at dksX6_printChutes_3 16 rfl rfl)
theorem dX6_printChutes_86 : decode cX6_printChutes 86 = .ok (.iload_n 2, 1) := dk_28 (dk_at dksX6_printChutes_3 18 rfl rfl)
theorem dX6_printChutes_87 : decode cX6_printChutes 87 = .ok (.iadd, 1) := dk_96 (dk_at dksX6_printChutes_3 19 rfl rfl)
theorem dX6_printChutes_88 : decode cX6_printChutes 88 = .ok (.invokevirtual 78, 3) := dk_182 0 78 (dk_at dksX6_printChutes_3 20 rfl rfl)
theorem dX6_printChutes_91 : decode cX6_printChutes 91 = .ok (.invokevirtual 396, 3) := dk_182 1 140 (dk_at dksX6_printChutes_4 0 rfl rfl)
theorem dX6_printChutes_94 : decode cX6_printChutes 94 = .ok (.iinc 2 1, 3) := dk_132 2 1 (dk_at dksX6_printChutes_4 3 rfl rfl)
theorem dX6_printChutes_97 : decode cX6_printChutes 97 = .ok (.goto (-37), 3) := dk_167 255 219 (dk_at dksX6_printChutes_4 6 rfl rfl)
theorem dX6_printChutes_100 : decode cX6_printChutes 100 = .ok (.iinc 1 1, 3) := dk_132 1 1 (dk_at dksX6_printChutes_4 9 rfl rfl)
theorem dX6_printChutes_103 : decode cX6_printChutes 103 = .ok (.goto (-91), 3) := dk_167 255 165 (dk_at dksX6_printChutes_4 12 rfl rfl)
theorem dX6_printChutes_106 : decode cX6_printChutes 106 = .ok (.aload_n 0, 1) := dk_42 (dk_at dksX6_printChutes_4 15 rfl rfl)
theorem dX6_printChutes_107 : decode cX6_printChutes 107 = .ok (.getfield 387, 3) := dk_180 1 131 (dk_at dksX6_printChutes_4 16 rfl rfl)
theorem dX6_printChutes_110 : decode cX6_printChutes 110 = .ok (.ireturn, 1) := dk_172 (dk_at dksX6_printChutes_4 19 rfl rfl)
abbrev cX6_writeNumber : ByteArray := prog_19_method_122_code
def yX6_writeNumber : MethodName := ⟨RX6, "writeNumber", "(I)V"⟩
def dkwX6_writeNumber_1 : List UInt8 := [96, 182, 1, 134, 177]
abbrev dktX6_writeNumber_1 : List UInt8 := dkwX6_writeNumber_1 ++ []
def dkwX6_writeNumber_0 : List UInt8 := [27, 16, 9, 164, 0, 14, 42, 16, 48, 27, 16, 10, 108, 96, 182, 1, 134, 42, 16, 48, 27, 16, 10, 112]
abbrev dktX6_writeNumber_0 : List UInt8 := dkwX6_writeNumber_0 ++ dktX6_writeNumber_1
theorem dksX6_writeNumber_0 : cX6_writeNumber.data.toList.drop 0 = dktX6_writeNumber_0 := by decide +kernel
theorem dksX6_writeNumber_1 : cX6_writeNumber.data.toList.drop 24 = dktX6_writeNumber_1 := dk_seg dksX6_writeNumber_0 24 rfl rfl
theorem dX6_writeNumber_0 : decode cX6_writeNumber 0 = .ok (.iload_n 1, 1) := dk_27 (dk_at dksX6_writeNumber_0 0 rfl rfl)
theorem dX6_writeNumber_1 : decode cX6_writeNumber 1 = .ok (.bipush 9, 2) := dk_16 9 (dk_at dksX6_writeNumber_0 1 rfl rfl)
theorem dX6_writeNumber_3 : decode cX6_writeNumber 3 = .ok (.if_icmp .le 14, 3) := dk_164 0 14 (dk_at dksX6_writeNumber_0 3 rfl rfl)
theorem dX6_writeNumber_6 : decode cX6_writeNumber 6 = .ok (.aload_n 0, 1) := dk_42 (dk_at dksX6_writeNumber_0 6 rfl rfl)
theorem dX6_writeNumber_7 : decode cX6_writeNumber 7 = .ok (.bipush 48, 2) := dk_16 48 (dk_at dksX6_writeNumber_0 7 rfl rfl)
theorem dX6_writeNumber_9 : decode cX6_writeNumber 9 = .ok (.iload_n 1, 1) := dk_27 (dk_at dksX6_writeNumber_0 9 rfl rfl)
theorem dX6_writeNumber_10 : decode cX6_writeNumber 10 = .ok (.bipush 10, 2) := dk_16 10 (dk_at dksX6_writeNumber_0 10 rfl rfl)
theorem dX6_writeNumber_12 : decode cX6_writeNumber 12 = .ok (.idiv, 1) := dk_108 (dk_at dksX6_writeNumber_0 12 rfl rfl)
theorem dX6_writeNumber_13 : decode cX6_writeNumber 13 = .ok (.iadd, 1) := dk_96 (dk_at dksX6_writeNumber_0 13 rfl rfl)
theorem dX6_writeNumber_14 : decode cX6_writeNumber 14 = .ok (.invokevirtual 390, 3) := dk_182 1 134 (dk_at dksX6_writeNumber_0 14 rfl rfl)
theorem dX6_writeNumber_17 : decode cX6_writeNumber 17 = .ok (.aload_n 0, 1) := dk_42 (dk_at dksX6_writeNumber_0 17 rfl rfl)
theorem dX6_writeNumber_18 : decode cX6_writeNumber 18 = .ok (.bipush 48, 2) := dk_16 48 (dk_at dksX6_writeNumber_0 18 rfl rfl)
theorem dX6_writeNumber_20 : decode cX6_writeNumber 20 = .ok (.iload_n 1, 1) := dk_27 (dk_at dksX6_writeNumber_0 20 rfl rfl)
theorem dX6_writeNumber_21 : decode cX6_writeNumber 21 = .ok (.bipush 10, 2) := dk_16 10 (dk_at dksX6_writeNumber_0 21 rfl rfl)
theorem dX6_writeNumber_23 : decode cX6_writeNumber 23 = .ok (.irem, 1) := dk_112 (dk_at dksX6_writeNumber_0 23 rfl rfl)
theorem dX6_writeNumber_24 : decode cX6_writeNumber 24 = .ok (.iadd, 1) := dk_96 (dk_at dksX6_writeNumber_1 0 rfl rfl)
theorem dX6_writeNumber_25 : decode cX6_writeNumber 25 = .ok (.invokevirtual 390, 3) := dk_182 1 134 (dk_at dksX6_writeNumber_1 1 rfl rfl)
theorem dX6_writeNumber_28 : decode cX6_writeNumber 28 = .ok (.return_, 1) := dk_177 (dk_at dksX6_writeNumber_1 4 rfl rfl)
abbrev cX6_outputByte : ByteArray := prog_19_method_126_code
def yX6_outputByte : MethodName := ⟨RX6, "outputByte", "(I)I"⟩
def dkwX6_outputByte_1 : List UInt8 := [46, 167, 0, 4, 2, 172]
abbrev dktX6_outputByte_1 : List UInt8 := dkwX6_outputByte_1 ++ []
def dkwX6_outputByte_0 : List UInt8 := [42, 3, 181, 0, 55, 27, 3, 42, 180, 1, 131, 4, 100, 184, 0, 152, 153, 0, 12, 42, 180, 0, 44, 27]
abbrev dktX6_outputByte_0 : List UInt8 := dkwX6_outputByte_0 ++ dktX6_outputByte_1
theorem dksX6_outputByte_0 : cX6_outputByte.data.toList.drop 0 = dktX6_outputByte_0 := by decide +kernel
theorem dksX6_outputByte_1 : cX6_outputByte.data.toList.drop 24 = dktX6_outputByte_1 := dk_seg dksX6_outputByte_0 24 rfl rfl
theorem dX6_outputByte_0 : decode cX6_outputByte 0 = .ok (.aload_n 0, 1) := dk_42 (dk_at dksX6_outputByte_0 0 rfl rfl)
theorem dX6_outputByte_1 : decode cX6_outputByte 1 = .ok (.iconst 0, 1) := dk_3 (dk_at dksX6_outputByte_0 1 rfl rfl)
theorem dX6_outputByte_2 : decode cX6_outputByte 2 = .ok (.putfield 55, 3) := dk_181 0 55 (dk_at dksX6_outputByte_0 2 rfl rfl)
theorem dX6_outputByte_5 : decode cX6_outputByte 5 = .ok (.iload_n 1, 1) := dk_27 (dk_at dksX6_outputByte_0 5 rfl rfl)
theorem dX6_outputByte_6 : decode cX6_outputByte 6 = .ok (.iconst 0, 1) := dk_3 (dk_at dksX6_outputByte_0 6 rfl rfl)
theorem dX6_outputByte_7 : decode cX6_outputByte 7 = .ok (.aload_n 0, 1) := dk_42 (dk_at dksX6_outputByte_0 7 rfl rfl)
theorem dX6_outputByte_8 : decode cX6_outputByte 8 = .ok (.getfield 387, 3) := dk_180 1 131 (dk_at dksX6_outputByte_0 8 rfl rfl)
theorem dX6_outputByte_11 : decode cX6_outputByte 11 = .ok (.iconst 1, 1) := dk_4 (dk_at dksX6_outputByte_0 11 rfl rfl)
theorem dX6_outputByte_12 : decode cX6_outputByte 12 = .ok (.isub, 1) := dk_100 (dk_at dksX6_outputByte_0 12 rfl rfl)
theorem dX6_outputByte_13 : decode cX6_outputByte 13 = .ok (.invokestatic 152, 3) := dk_184 0 152 (dk_at dksX6_outputByte_0 13 rfl rfl)
theorem dX6_outputByte_16 : decode cX6_outputByte 16 = .ok (.ifCond .eq 12, 3) := dk_153 0 12 (dk_at dksX6_outputByte_0 16 rfl rfl)
theorem dX6_outputByte_19 : decode cX6_outputByte 19 = .ok (.aload_n 0, 1) := dk_42 (dk_at dksX6_outputByte_0 19 rfl rfl)
theorem dX6_outputByte_20 : decode cX6_outputByte 20 = .ok (.getfield 44, 3) := dk_180 0 44 (dk_at dksX6_outputByte_0 20 rfl rfl)
theorem dX6_outputByte_23 : decode cX6_outputByte 23 = .ok (.iload_n 1, 1) := dk_27 (dk_at dksX6_outputByte_0 23 rfl rfl)
theorem dX6_outputByte_24 : decode cX6_outputByte 24 = .ok (.iaload, 1) := dk_46 (dk_at dksX6_outputByte_1 0 rfl rfl)
theorem dX6_outputByte_25 : decode cX6_outputByte 25 = .ok (.goto 4, 3) := dk_167 0 4 (dk_at dksX6_outputByte_1 1 rfl rfl)
theorem dX6_outputByte_28 : decode cX6_outputByte 28 = .ok (.iconst (-1), 1) := dk_2 (dk_at dksX6_outputByte_1 4 rfl rfl)
theorem dX6_outputByte_29 : decode cX6_outputByte 29 = .ok (.ireturn, 1) := dk_172 (dk_at dksX6_outputByte_1 5 rfl rfl)
abbrev cX6_saveState : ByteArray := prog_19_method_127_code
def yX6_saveState : MethodName := ⟨RX6, "saveState", "()I"⟩
def dkwX6_saveState_1 : List UInt8 := [180, 0, 7, 8, 46, 172]
abbrev dktX6_saveState_1 : List UInt8 := dkwX6_saveState_1 ++ []
def dkwX6_saveState_0 : List UInt8 := [42, 3, 181, 0, 55, 42, 180, 0, 7, 3, 42, 180, 0, 19, 3, 184, 0, 142, 42, 4, 181, 1, 1, 42]
abbrev dktX6_saveState_0 : List UInt8 := dkwX6_saveState_0 ++ dktX6_saveState_1
theorem dksX6_saveState_0 : cX6_saveState.data.toList.drop 0 = dktX6_saveState_0 := by decide +kernel
theorem dksX6_saveState_1 : cX6_saveState.data.toList.drop 24 = dktX6_saveState_1 := dk_seg dksX6_saveState_0 24 rfl rfl
theorem dX6_saveState_0 : decode cX6_saveState 0 = .ok (.aload_n 0, 1) := dk_42 (dk_at dksX6_saveState_0 0 rfl rfl)
theorem dX6_saveState_1 : decode cX6_saveState 1 = .ok (.iconst 0, 1) := dk_3 (dk_at dksX6_saveState_0 1 rfl rfl)
theorem dX6_saveState_2 : decode cX6_saveState 2 = .ok (.putfield 55, 3) := dk_181 0 55 (dk_at dksX6_saveState_0 2 rfl rfl)
theorem dX6_saveState_5 : decode cX6_saveState 5 = .ok (.aload_n 0, 1) := dk_42 (dk_at dksX6_saveState_0 5 rfl rfl)
theorem dX6_saveState_6 : decode cX6_saveState 6 = .ok (.getfield 7, 3) := dk_180 0 7 (dk_at dksX6_saveState_0 6 rfl rfl)
theorem dX6_saveState_9 : decode cX6_saveState 9 = .ok (.iconst 0, 1) := dk_3 (dk_at dksX6_saveState_0 9 rfl rfl)
theorem dX6_saveState_10 : decode cX6_saveState 10 = .ok (.aload_n 0, 1) := dk_42 (dk_at dksX6_saveState_0 10 rfl rfl)
theorem dX6_saveState_11 : decode cX6_saveState 11 = .ok (.getfield 19, 3) := dk_180 0 19 (dk_at dksX6_saveState_0 11 rfl rfl)
theorem dX6_saveState_14 : decode cX6_saveState 14 = .ok (.iconst 0, 1) := dk_3 (dk_at dksX6_saveState_0 14 rfl rfl)
theorem dX6_saveState_15 : decode cX6_saveState 15 = .ok (.invokestatic 142, 3) := dk_184 0 142 (dk_at dksX6_saveState_0 15 rfl rfl)
theorem dX6_saveState_18 : decode cX6_saveState 18 = .ok (.aload_n 0, 1) := dk_42 (dk_at dksX6_saveState_0 18 rfl rfl)
theorem dX6_saveState_19 : decode cX6_saveState 19 = .ok (.iconst 1, 1) := dk_4 (dk_at dksX6_saveState_0 19 rfl rfl)
theorem dX6_saveState_20 : decode cX6_saveState 20 = .ok (.putfield 257, 3) := dk_181 1 1 (dk_at dksX6_saveState_0 20 rfl rfl)
theorem dX6_saveState_23 : decode cX6_saveState 23 = .ok (.aload_n 0, 1) := dk_42 (dk_at dksX6_saveState_0 23 rfl rfl)
theorem dX6_saveState_24 : decode cX6_saveState 24 = .ok (.getfield 7, 3) := dk_180 0 7 (dk_at dksX6_saveState_1 0 rfl rfl)
theorem dX6_saveState_27 : decode cX6_saveState 27 = .ok (.iconst 5, 1) := dk_8 (dk_at dksX6_saveState_1 3 rfl rfl)
theorem dX6_saveState_28 : decode cX6_saveState 28 = .ok (.iaload, 1) := dk_46 (dk_at dksX6_saveState_1 4 rfl rfl)
theorem dX6_saveState_29 : decode cX6_saveState 29 = .ok (.ireturn, 1) := dk_172 (dk_at dksX6_saveState_1 5 rfl rfl)
abbrev cX6_restoreState : ByteArray := prog_19_method_128_code
def yX6_restoreState : MethodName := ⟨RX6, "restoreState", "()I"⟩
def dkwX6_restoreState_2 : List UInt8 := [180, 0, 7, 8, 46, 172]
abbrev dktX6_restoreState_2 : List UInt8 := dkwX6_restoreState_2 ++ []
def dkwX6_restoreState_1 : List UInt8 := [153, 0, 5, 3, 172, 42, 180, 0, 19, 3, 42, 180, 0, 7, 3, 184, 0, 142, 42, 3, 181, 0, 139, 42]
abbrev dktX6_restoreState_1 : List UInt8 := dkwX6_restoreState_1 ++ dktX6_restoreState_2
def dkwX6_restoreState_0 : List UInt8 := [42, 3, 181, 0, 55, 42, 42, 180, 1, 1, 154, 0, 7, 4, 167, 0, 4, 3, 4, 182, 1, 58]
abbrev dktX6_restoreState_0 : List UInt8 := dkwX6_restoreState_0 ++ dktX6_restoreState_1
theorem dksX6_restoreState_0 : cX6_restoreState.data.toList.drop 0 = dktX6_restoreState_0 := by decide +kernel
theorem dksX6_restoreState_1 : cX6_restoreState.data.toList.drop 22 = dktX6_restoreState_1 := dk_seg dksX6_restoreState_0 22 rfl rfl
theorem dksX6_restoreState_2 : cX6_restoreState.data.toList.drop 46 = dktX6_restoreState_2 := dk_seg dksX6_restoreState_1 24 rfl rfl
theorem dX6_restoreState_0 : decode cX6_restoreState 0 = .ok (.aload_n 0, 1) := dk_42 (dk_at dksX6_restoreState_0 0 rfl rfl)
theorem dX6_restoreState_1 : decode cX6_restoreState 1 = .ok (.iconst 0, 1) := dk_3 (dk_at dksX6_restoreState_0 1 rfl rfl)
theorem dX6_restoreState_2 : decode cX6_restoreState 2 = .ok (.putfield 55, 3) := dk_181 0 55 (dk_at dksX6_restoreState_0 2 rfl rfl)
theorem dX6_restoreState_5 : decode cX6_restoreState 5 = .ok (.aload_n 0, 1) := dk_42 (dk_at dksX6_restoreState_0 5 rfl rfl)
theorem dX6_restoreState_6 : decode cX6_restoreState 6 = .ok (.aload_n 0, 1) := dk_42 (dk_at dksX6_restoreState_0 6 rfl rfl)
theorem dX6_restoreState_7 : decode cX6_restoreState 7 = .ok (.getfield 257, 3) := dk_180 1 1 (dk_at dksX6_restoreState_0 7 rfl rfl)
theorem dX6_restoreState_10 : decode cX6_restoreState 10 = .ok (.ifCond .ne 7, 3) := dk_154 0 7 (dk_at dksX6_restoreState_0 10 rfl rfl)
theorem dX6_restoreState_13 : decode cX6_restoreState 13 = .ok (.iconst 1, 1) := dk_4 (dk_at dksX6_restoreState_0 13 rfl rfl)
theorem dX6_restoreState_14 : decode cX6_restoreState 14 = .ok (.goto 4, 3) := dk_167 0 4 (dk_at dksX6_restoreState_0 14 rfl rfl)
theorem dX6_restoreState_17 : decode cX6_restoreState 17 = .ok (.iconst 0, 1) := dk_3 (dk_at dksX6_restoreState_0 17 rfl rfl)
theorem dX6_restoreState_18 : decode cX6_restoreState 18 = .ok (.iconst 1, 1) := dk_4 (dk_at dksX6_restoreState_0 18 rfl rfl)
theorem dX6_restoreState_19 : decode cX6_restoreState 19 = .ok (.invokevirtual 314, 3) := dk_182 1 58 (dk_at dksX6_restoreState_0 19 rfl rfl)
theorem dX6_restoreState_22 : decode cX6_restoreState 22 = .ok (.ifCond .eq 5, 3) := dk_153 0 5 (dk_at dksX6_restoreState_1 0 rfl rfl)
theorem dX6_restoreState_25 : decode cX6_restoreState 25 = .ok (.iconst 0, 1) := dk_3 (dk_at dksX6_restoreState_1 3 rfl rfl)
theorem dX6_restoreState_26 : decode cX6_restoreState 26 = .ok (.ireturn, 1) := dk_172 (dk_at dksX6_restoreState_1 4 rfl rfl)
theorem dX6_restoreState_27 : decode cX6_restoreState 27 = .ok (.aload_n 0, 1) := dk_42 (dk_at dksX6_restoreState_1 5 rfl rfl)
theorem dX6_restoreState_28 : decode cX6_restoreState 28 = .ok (.getfield 19, 3) := dk_180 0 19 (dk_at dksX6_restoreState_1 6 rfl rfl)
theorem dX6_restoreState_31 : decode cX6_restoreState 31 = .ok (.iconst 0, 1) := dk_3 (dk_at dksX6_restoreState_1 9 rfl rfl)
theorem dX6_restoreState_32 : decode cX6_restoreState 32 = .ok (.aload_n 0, 1) := dk_42 (dk_at dksX6_restoreState_1 10 rfl rfl)
theorem dX6_restoreState_33 : decode cX6_restoreState 33 = .ok (.getfield 7, 3) := dk_180 0 7 (dk_at dksX6_restoreState_1 11 rfl rfl)
theorem dX6_restoreState_36 : decode cX6_restoreState 36 = .ok (.iconst 0, 1) := dk_3 (dk_at dksX6_restoreState_1 14 rfl rfl)
theorem dX6_restoreState_37 : decode cX6_restoreState 37 = .ok (.invokestatic 142, 3) := dk_184 0 142 (dk_at dksX6_restoreState_1 15 rfl rfl)
theorem dX6_restoreState_40 : decode cX6_restoreState 40 = .ok (.aload_n 0, 1) := dk_42 (dk_at dksX6_restoreState_1 18 rfl rfl)
theorem dX6_restoreState_41 : decode cX6_restoreState 41 = .ok (.iconst 0, 1) := dk_3 (dk_at dksX6_restoreState_1 19 rfl rfl)
theorem dX6_restoreState_42 : decode cX6_restoreState 42 = .ok (.putfield 139, 3) := dk_181 0 139 (dk_at dksX6_restoreState_1 20 rfl rfl)
theorem dX6_restoreState_45 : decode cX6_restoreState 45 = .ok (.aload_n 0, 1) := dk_42 (dk_at dksX6_restoreState_1 23 rfl rfl)
theorem dX6_restoreState_46 : decode cX6_restoreState 46 = .ok (.getfield 7, 3) := dk_180 0 7 (dk_at dksX6_restoreState_2 0 rfl rfl)
theorem dX6_restoreState_49 : decode cX6_restoreState 49 = .ok (.iconst 5, 1) := dk_8 (dk_at dksX6_restoreState_2 3 rfl rfl)
theorem dX6_restoreState_50 : decode cX6_restoreState 50 = .ok (.iaload, 1) := dk_46 (dk_at dksX6_restoreState_2 4 rfl rfl)
theorem dX6_restoreState_51 : decode cX6_restoreState 51 = .ok (.ireturn, 1) := dk_172 (dk_at dksX6_restoreState_2 5 rfl rfl)
theorem q174 : (Jvm.Cond.initialized "SortingLoopModel") ∈ lw_all := lw_g (lw_at lw_m1 37 rfl) rfl
theorem q620 : (Jvm.Cond.selects "SortingLoopModel" ({ cls := "java/lang/Object", name := "getClass", desc := "()Ljava/lang/Class;" } : Jvm.MethodName) ({ cls := "java/lang/Object", name := "getClass", desc := "()Ljava/lang/Class;" } : Jvm.MethodName)) ∈ lw_all := lw_g (lw_at lw_m3 3 rfl) rfl
theorem q2221 : (Jvm.Cond.selects "SortingLoopModel" ({ cls := "java/lang/Object", name := "equals", desc := "(Ljava/lang/Object;)Z" } : Jvm.MethodName) ({ cls := "java/lang/Object", name := "equals", desc := "(Ljava/lang/Object;)Z" } : Jvm.MethodName)) ∈ lw_all := lw_g (lw_at lw_m9 164 rfl) rfl
theorem q2713 : (Jvm.Cond.instantiable "SortingLoopModel" (26 : Nat)) ∈ lw_all := lw_g (lw_at lw_m11 176 rfl) rfl
theorem q2715 : (Jvm.Cond.instanceMethod ({ cls := "SortingLoopModel", name := "<init>", desc := "()V" } : Jvm.MethodName)) ∈ lw_all := lw_g (lw_at lw_m11 178 rfl) rfl
theorem q2716 : (Jvm.Cond.code ({ cls := "SortingLoopModel", name := "<init>", desc := "()V" } : Jvm.MethodName) prog_19_method_1_code (1 : Nat) (Option.none : Option Jvm.ClassFile.FieldType)) ∈ lw_all := lw_g (lw_at lw_m11 179 rfl) rfl
theorem q2717 : (Jvm.Cond.methodLink "SortingLoopModel" (1 : Nat) ({ cls := "java/lang/Object", name := "<init>", desc := "()V" } : Jvm.MethodName)) ∈ lw_all := lw_g (lw_at lw_m11 180 rfl) rfl
theorem q2718 : (Jvm.Cond.methodLink "SortingLoopModel" (47 : Nat) ({ cls := "SortingLoopModel", name := "begins", desc := "(II)V" } : Jvm.MethodName)) ∈ lw_all := lw_g (lw_at lw_m11 181 rfl) rfl
theorem q2719 : (Jvm.Cond.privateMethod ({ cls := "SortingLoopModel", name := "begins", desc := "(II)V" } : Jvm.MethodName)) ∈ lw_tbl := lw_at lw_m11 182 rfl
theorem q2720 : (Jvm.Cond.instanceMethod ({ cls := "SortingLoopModel", name := "begins", desc := "(II)V" } : Jvm.MethodName)) ∈ lw_all := lw_g (lw_at lw_m11 183 rfl) rfl
theorem q2721 : (Jvm.Cond.code ({ cls := "SortingLoopModel", name := "begins", desc := "(II)V" } : Jvm.MethodName) prog_19_method_8_code (4 : Nat) (Option.none : Option Jvm.ClassFile.FieldType)) ∈ lw_all := lw_g (lw_at lw_m11 184 rfl) rfl
theorem q2722 : (Jvm.Cond.methodLink "SortingLoopModel" (51 : Nat) ({ cls := "SortingLoopModel", name := "addsChute", desc := "(IIII)V" } : Jvm.MethodName)) ∈ lw_all := lw_g (lw_at lw_m11 185 rfl) rfl
theorem q2723 : (Jvm.Cond.privateMethod ({ cls := "SortingLoopModel", name := "addsChute", desc := "(IIII)V" } : Jvm.MethodName)) ∈ lw_tbl := lw_at lw_m11 186 rfl
theorem q2724 : (Jvm.Cond.instanceMethod ({ cls := "SortingLoopModel", name := "addsChute", desc := "(IIII)V" } : Jvm.MethodName)) ∈ lw_all := lw_g (lw_at lw_m11 187 rfl) rfl
theorem q2725 : (Jvm.Cond.code ({ cls := "SortingLoopModel", name := "addsChute", desc := "(IIII)V" } : Jvm.MethodName) prog_19_method_13_code (6 : Nat) (Option.none : Option Jvm.ClassFile.FieldType)) ∈ lw_all := lw_g (lw_at lw_m11 188 rfl) rfl
theorem q2726 : (Jvm.Cond.methodLink "SortingLoopModel" (58 : Nat) ({ cls := "SortingLoopModel", name := "putsChute", desc := "(III)V" } : Jvm.MethodName)) ∈ lw_all := lw_g (lw_at lw_m11 189 rfl) rfl
theorem q2727 : (Jvm.Cond.privateMethod ({ cls := "SortingLoopModel", name := "putsChute", desc := "(III)V" } : Jvm.MethodName)) ∈ lw_tbl := lw_at lw_m11 190 rfl
theorem q2728 : (Jvm.Cond.instanceMethod ({ cls := "SortingLoopModel", name := "putsChute", desc := "(III)V" } : Jvm.MethodName)) ∈ lw_all := lw_g (lw_at lw_m11 191 rfl) rfl
theorem q2729 : (Jvm.Cond.code ({ cls := "SortingLoopModel", name := "putsChute", desc := "(III)V" } : Jvm.MethodName) prog_19_method_10_code (4 : Nat) (Option.none : Option Jvm.ClassFile.FieldType)) ∈ lw_all := lw_g (lw_at lw_m11 192 rfl) rfl
theorem q2730 : (Jvm.Cond.fieldLink "SortingLoopModel" (7 : Nat) "SortingLoopModel" "w" "[I") ∈ lw_all := lw_g (lw_at lw_m11 193 rfl) rfl
theorem q2731 : (Jvm.Cond.fieldLink "SortingLoopModel" (13 : Nat) "SortingLoopModel" "wKept" "[I") ∈ lw_all := lw_g (lw_at lw_m11 194 rfl) rfl
theorem q2732 : (Jvm.Cond.fieldLink "SortingLoopModel" (16 : Nat) "SortingLoopModel" "aside" "[I") ∈ lw_all := lw_g (lw_at lw_m11 195 rfl) rfl
theorem q2733 : (Jvm.Cond.fieldLink "SortingLoopModel" (19 : Nat) "SortingLoopModel" "saved" "[I") ∈ lw_all := lw_g (lw_at lw_m11 196 rfl) rfl
theorem q2734 : (Jvm.Cond.fieldLink "SortingLoopModel" (22 : Nat) "SortingLoopModel" "past" "[I") ∈ lw_all := lw_g (lw_at lw_m11 197 rfl) rfl
theorem q2735 : (Jvm.Cond.fieldLink "SortingLoopModel" (139 : Nat) "SortingLoopModel" "pastMany" "I") ∈ lw_all := lw_g (lw_at lw_m11 198 rfl) rfl
theorem q2736 : (Jvm.Cond.fieldLink "SortingLoopModel" (257 : Nat) "SortingLoopModel" "isSaved" "Z") ∈ lw_all := lw_g (lw_at lw_m11 199 rfl) rfl
theorem q2737 : (Jvm.Cond.fieldLink "SortingLoopModel" (55 : Nat) "SortingLoopModel" "thrown" "I") ∈ lw_all := lw_g (lw_at lw_m11 200 rfl) rfl
theorem q2738 : (Jvm.Cond.fieldLink "SortingLoopModel" (25 : Nat) "SortingLoopModel" "input" "[I") ∈ lw_all := lw_g (lw_at lw_m11 201 rfl) rfl
theorem q2739 : (Jvm.Cond.fieldLink "SortingLoopModel" (146 : Nat) "SortingLoopModel" "inputMany" "I") ∈ lw_all := lw_g (lw_at lw_m11 202 rfl) rfl
theorem q2740 : (Jvm.Cond.fieldLink "SortingLoopModel" (245 : Nat) "SortingLoopModel" "lastError" "I") ∈ lw_all := lw_g (lw_at lw_m11 203 rfl) rfl
theorem q2741 : (Jvm.Cond.fieldLink "SortingLoopModel" (28 : Nat) "SortingLoopModel" "lastOffset" "I") ∈ lw_all := lw_g (lw_at lw_m11 204 rfl) rfl
theorem q2742 : (Jvm.Cond.fieldLink "SortingLoopModel" (174 : Nat) "SortingLoopModel" "error" "I") ∈ lw_all := lw_g (lw_at lw_m11 205 rfl) rfl
theorem q2743 : (Jvm.Cond.fieldLink "SortingLoopModel" (177 : Nat) "SortingLoopModel" "offset" "I") ∈ lw_all := lw_g (lw_at lw_m11 206 rfl) rfl
theorem q2744 : (Jvm.Cond.fieldLink "SortingLoopModel" (159 : Nat) "SortingLoopModel" "nextByte" "I") ∈ lw_all := lw_g (lw_at lw_m11 207 rfl) rfl
theorem q2745 : (Jvm.Cond.fieldLink "SortingLoopModel" (162 : Nat) "SortingLoopModel" "begin" "I") ∈ lw_all := lw_g (lw_at lw_m11 208 rfl) rfl
theorem q2746 : (Jvm.Cond.fieldLink "SortingLoopModel" (165 : Nat) "SortingLoopModel" "value" "I") ∈ lw_all := lw_g (lw_at lw_m11 209 rfl) rfl
theorem q2747 : (Jvm.Cond.fieldLink "SortingLoopModel" (168 : Nat) "SortingLoopModel" "token" "I") ∈ lw_all := lw_g (lw_at lw_m11 210 rfl) rfl
theorem q2748 : (Jvm.Cond.fieldLink "SortingLoopModel" (193 : Nat) "SortingLoopModel" "got" "I") ∈ lw_all := lw_g (lw_at lw_m11 211 rfl) rfl
theorem q2749 : (Jvm.Cond.fieldLink "SortingLoopModel" (32 : Nat) "SortingLoopModel" "n" "[I") ∈ lw_all := lw_g (lw_at lw_m11 212 rfl) rfl
theorem q2750 : (Jvm.Cond.fieldLink "SortingLoopModel" (35 : Nat) "SortingLoopModel" "order" "[I") ∈ lw_all := lw_g (lw_at lw_m11 213 rfl) rfl
theorem q2751 : (Jvm.Cond.fieldLink "SortingLoopModel" (38 : Nat) "SortingLoopModel" "firstOf" "[I") ∈ lw_all := lw_g (lw_at lw_m11 214 rfl) rfl
theorem q2752 : (Jvm.Cond.fieldLink "SortingLoopModel" (41 : Nat) "SortingLoopModel" "secondOf" "[I") ∈ lw_all := lw_g (lw_at lw_m11 215 rfl) rfl
theorem q2753 : (Jvm.Cond.fieldLink "SortingLoopModel" (242 : Nat) "SortingLoopModel" "orders" "I") ∈ lw_all := lw_g (lw_at lw_m11 216 rfl) rfl
theorem q2754 : (Jvm.Cond.fieldLink "SortingLoopModel" (44 : Nat) "SortingLoopModel" "output" "[I") ∈ lw_all := lw_g (lw_at lw_m11 217 rfl) rfl
theorem q2755 : (Jvm.Cond.fieldLink "SortingLoopModel" (387 : Nat) "SortingLoopModel" "outputMany" "I") ∈ lw_all := lw_g (lw_at lw_m11 218 rfl) rfl
theorem q2756 : (Jvm.Cond.laysFinal "SortingLoopModel" "SortingLoopModel" "w" "[I") ∈ lw_all := lw_g (lw_at lw_m11 219 rfl) rfl
theorem q2757 : (Jvm.Cond.soleField "SortingLoopModel" "w") ∈ lw_all := lw_g (lw_at lw_m11 220 rfl) rfl
theorem q2758 : (Jvm.Cond.laysFinal "SortingLoopModel" "SortingLoopModel" "wKept" "[I") ∈ lw_all := lw_g (lw_at lw_m11 221 rfl) rfl
theorem q2759 : (Jvm.Cond.soleField "SortingLoopModel" "wKept") ∈ lw_all := lw_g (lw_at lw_m11 222 rfl) rfl
theorem q2760 : (Jvm.Cond.laysFinal "SortingLoopModel" "SortingLoopModel" "aside" "[I") ∈ lw_all := lw_g (lw_at lw_m11 223 rfl) rfl
theorem q2761 : (Jvm.Cond.soleField "SortingLoopModel" "aside") ∈ lw_all := lw_g (lw_at lw_m11 224 rfl) rfl
theorem q2762 : (Jvm.Cond.laysFinal "SortingLoopModel" "SortingLoopModel" "saved" "[I") ∈ lw_all := lw_g (lw_at lw_m11 225 rfl) rfl
theorem q2763 : (Jvm.Cond.soleField "SortingLoopModel" "saved") ∈ lw_all := lw_g (lw_at lw_m11 226 rfl) rfl
theorem q2764 : (Jvm.Cond.laysFinal "SortingLoopModel" "SortingLoopModel" "past" "[I") ∈ lw_all := lw_g (lw_at lw_m11 227 rfl) rfl
theorem q2765 : (Jvm.Cond.soleField "SortingLoopModel" "past") ∈ lw_all := lw_g (lw_at lw_m11 228 rfl) rfl
theorem q2766 : (Jvm.Cond.lays "SortingLoopModel" "SortingLoopModel" "pastMany" "I") ∈ lw_all := lw_g (lw_at lw_m11 229 rfl) rfl
theorem q2767 : (Jvm.Cond.soleField "SortingLoopModel" "pastMany") ∈ lw_all := lw_g (lw_at lw_m11 230 rfl) rfl
theorem q2768 : (Jvm.Cond.lays "SortingLoopModel" "SortingLoopModel" "isSaved" "Z") ∈ lw_all := lw_g (lw_at lw_m11 231 rfl) rfl
theorem q2769 : (Jvm.Cond.soleField "SortingLoopModel" "isSaved") ∈ lw_all := lw_g (lw_at lw_m11 232 rfl) rfl
theorem q2770 : (Jvm.Cond.lays "SortingLoopModel" "SortingLoopModel" "thrown" "I") ∈ lw_all := lw_g (lw_at lw_m11 233 rfl) rfl
theorem q2771 : (Jvm.Cond.soleField "SortingLoopModel" "thrown") ∈ lw_all := lw_g (lw_at lw_m11 234 rfl) rfl
theorem q2772 : (Jvm.Cond.laysFinal "SortingLoopModel" "SortingLoopModel" "input" "[I") ∈ lw_all := lw_g (lw_at lw_m11 235 rfl) rfl
theorem q2773 : (Jvm.Cond.soleField "SortingLoopModel" "input") ∈ lw_all := lw_g (lw_at lw_m11 236 rfl) rfl
theorem q2774 : (Jvm.Cond.lays "SortingLoopModel" "SortingLoopModel" "inputMany" "I") ∈ lw_all := lw_g (lw_at lw_m11 237 rfl) rfl
theorem q2775 : (Jvm.Cond.soleField "SortingLoopModel" "inputMany") ∈ lw_all := lw_g (lw_at lw_m11 238 rfl) rfl
theorem q2776 : (Jvm.Cond.lays "SortingLoopModel" "SortingLoopModel" "lastError" "I") ∈ lw_all := lw_g (lw_at lw_m11 239 rfl) rfl
theorem q2777 : (Jvm.Cond.soleField "SortingLoopModel" "lastError") ∈ lw_all := lw_g (lw_at lw_m12 0 rfl) rfl
theorem q2778 : (Jvm.Cond.lays "SortingLoopModel" "SortingLoopModel" "lastOffset" "I") ∈ lw_all := lw_g (lw_at lw_m12 1 rfl) rfl
theorem q2779 : (Jvm.Cond.soleField "SortingLoopModel" "lastOffset") ∈ lw_all := lw_g (lw_at lw_m12 2 rfl) rfl
theorem q2780 : (Jvm.Cond.lays "SortingLoopModel" "SortingLoopModel" "error" "I") ∈ lw_all := lw_g (lw_at lw_m12 3 rfl) rfl
theorem q2781 : (Jvm.Cond.soleField "SortingLoopModel" "error") ∈ lw_all := lw_g (lw_at lw_m12 4 rfl) rfl
theorem q2782 : (Jvm.Cond.lays "SortingLoopModel" "SortingLoopModel" "offset" "I") ∈ lw_all := lw_g (lw_at lw_m12 5 rfl) rfl
theorem q2783 : (Jvm.Cond.soleField "SortingLoopModel" "offset") ∈ lw_all := lw_g (lw_at lw_m12 6 rfl) rfl
theorem q2784 : (Jvm.Cond.lays "SortingLoopModel" "SortingLoopModel" "nextByte" "I") ∈ lw_all := lw_g (lw_at lw_m12 7 rfl) rfl
theorem q2785 : (Jvm.Cond.soleField "SortingLoopModel" "nextByte") ∈ lw_all := lw_g (lw_at lw_m12 8 rfl) rfl
theorem q2786 : (Jvm.Cond.lays "SortingLoopModel" "SortingLoopModel" "begin" "I") ∈ lw_all := lw_g (lw_at lw_m12 9 rfl) rfl
theorem q2787 : (Jvm.Cond.soleField "SortingLoopModel" "begin") ∈ lw_all := lw_g (lw_at lw_m12 10 rfl) rfl
theorem q2788 : (Jvm.Cond.lays "SortingLoopModel" "SortingLoopModel" "value" "I") ∈ lw_all := lw_g (lw_at lw_m12 11 rfl) rfl
theorem q2789 : (Jvm.Cond.soleField "SortingLoopModel" "value") ∈ lw_all := lw_g (lw_at lw_m12 12 rfl) rfl
theorem q2790 : (Jvm.Cond.lays "SortingLoopModel" "SortingLoopModel" "token" "I") ∈ lw_all := lw_g (lw_at lw_m12 13 rfl) rfl
theorem q2791 : (Jvm.Cond.soleField "SortingLoopModel" "token") ∈ lw_all := lw_g (lw_at lw_m12 14 rfl) rfl
theorem q2792 : (Jvm.Cond.lays "SortingLoopModel" "SortingLoopModel" "got" "I") ∈ lw_all := lw_g (lw_at lw_m12 15 rfl) rfl
theorem q2793 : (Jvm.Cond.soleField "SortingLoopModel" "got") ∈ lw_all := lw_g (lw_at lw_m12 16 rfl) rfl
theorem q2794 : (Jvm.Cond.laysFinal "SortingLoopModel" "SortingLoopModel" "n" "[I") ∈ lw_all := lw_g (lw_at lw_m12 17 rfl) rfl
theorem q2795 : (Jvm.Cond.soleField "SortingLoopModel" "n") ∈ lw_all := lw_g (lw_at lw_m12 18 rfl) rfl
theorem q2796 : (Jvm.Cond.laysFinal "SortingLoopModel" "SortingLoopModel" "order" "[I") ∈ lw_all := lw_g (lw_at lw_m12 19 rfl) rfl
theorem q2797 : (Jvm.Cond.soleField "SortingLoopModel" "order") ∈ lw_all := lw_g (lw_at lw_m12 20 rfl) rfl
theorem q2798 : (Jvm.Cond.laysFinal "SortingLoopModel" "SortingLoopModel" "firstOf" "[I") ∈ lw_all := lw_g (lw_at lw_m12 21 rfl) rfl
theorem q2799 : (Jvm.Cond.soleField "SortingLoopModel" "firstOf") ∈ lw_all := lw_g (lw_at lw_m12 22 rfl) rfl
theorem q2800 : (Jvm.Cond.laysFinal "SortingLoopModel" "SortingLoopModel" "secondOf" "[I") ∈ lw_all := lw_g (lw_at lw_m12 23 rfl) rfl
theorem q2801 : (Jvm.Cond.soleField "SortingLoopModel" "secondOf") ∈ lw_all := lw_g (lw_at lw_m12 24 rfl) rfl
theorem q2802 : (Jvm.Cond.lays "SortingLoopModel" "SortingLoopModel" "orders" "I") ∈ lw_all := lw_g (lw_at lw_m12 25 rfl) rfl
theorem q2803 : (Jvm.Cond.soleField "SortingLoopModel" "orders") ∈ lw_all := lw_g (lw_at lw_m12 26 rfl) rfl
theorem q2804 : (Jvm.Cond.laysFinal "SortingLoopModel" "SortingLoopModel" "output" "[I") ∈ lw_all := lw_g (lw_at lw_m12 27 rfl) rfl
theorem q2805 : (Jvm.Cond.soleField "SortingLoopModel" "output") ∈ lw_all := lw_g (lw_at lw_m12 28 rfl) rfl
theorem q2806 : (Jvm.Cond.lays "SortingLoopModel" "SortingLoopModel" "outputMany" "I") ∈ lw_all := lw_g (lw_at lw_m12 29 rfl) rfl
theorem q2807 : (Jvm.Cond.soleField "SortingLoopModel" "outputMany") ∈ lw_all := lw_g (lw_at lw_m12 30 rfl) rfl
theorem q2808 : (Jvm.Cond.superclass "SortingLoopModel" "java/lang/Object") ∈ lw_all := lw_g (lw_at lw_m12 31 rfl) rfl
theorem q2810 : (Jvm.Cond.instanceMethod ({ cls := "SortingLoopModel", name := "thrown", desc := "()I" } : Jvm.MethodName)) ∈ lw_all := lw_g (lw_at lw_m12 33 rfl) rfl
theorem q2811 : (Jvm.Cond.selects "SortingLoopModel" ({ cls := "SortingLoopModel", name := "thrown", desc := "()I" } : Jvm.MethodName) ({ cls := "SortingLoopModel", name := "thrown", desc := "()I" } : Jvm.MethodName)) ∈ lw_all := lw_g (lw_at lw_m12 34 rfl) rfl
theorem q2812 : (Jvm.Cond.code ({ cls := "SortingLoopModel", name := "thrown", desc := "()I" } : Jvm.MethodName) prog_19_method_2_code (1 : Nat) (Option.some Jvm.ClassFile.FieldType.int)) ∈ lw_all := lw_g (lw_at lw_m12 35 rfl) rfl
theorem q2814 : (Jvm.Cond.instanceMethod ({ cls := "SortingLoopModel", name := "appendInput", desc := "(IIIII)I" } : Jvm.MethodName)) ∈ lw_all := lw_g (lw_at lw_m12 37 rfl) rfl
theorem q2815 : (Jvm.Cond.selects "SortingLoopModel" ({ cls := "SortingLoopModel", name := "appendInput", desc := "(IIIII)I" } : Jvm.MethodName) ({ cls := "SortingLoopModel", name := "appendInput", desc := "(IIIII)I" } : Jvm.MethodName)) ∈ lw_all := lw_g (lw_at lw_m12 38 rfl) rfl
theorem q2816 : (Jvm.Cond.code ({ cls := "SortingLoopModel", name := "appendInput", desc := "(IIIII)I" } : Jvm.MethodName) prog_19_method_43_code (6 : Nat) (Option.some Jvm.ClassFile.FieldType.int)) ∈ lw_all := lw_g (lw_at lw_m12 39 rfl) rfl
theorem q2817 : (Jvm.Cond.methodLink "SortingLoopModel" (149 : Nat) ({ cls := "SortingLoopModel", name := "appendWord", desc := "(I)V" } : Jvm.MethodName)) ∈ lw_all := lw_g (lw_at lw_m12 40 rfl) rfl
theorem q2818 : (Jvm.Cond.privateMethod ({ cls := "SortingLoopModel", name := "appendWord", desc := "(I)V" } : Jvm.MethodName)) ∈ lw_tbl := lw_at lw_m12 41 rfl
theorem q2819 : (Jvm.Cond.instanceMethod ({ cls := "SortingLoopModel", name := "appendWord", desc := "(I)V" } : Jvm.MethodName)) ∈ lw_all := lw_g (lw_at lw_m12 42 rfl) rfl
theorem q2820 : (Jvm.Cond.code ({ cls := "SortingLoopModel", name := "appendWord", desc := "(I)V" } : Jvm.MethodName) prog_19_method_42_code (3 : Nat) (Option.none : Option Jvm.ClassFile.FieldType)) ∈ lw_all := lw_g (lw_at lw_m12 43 rfl) rfl
theorem q2822 : (Jvm.Cond.instanceMethod ({ cls := "SortingLoopModel", name := "truncateInput", desc := "(I)Z" } : Jvm.MethodName)) ∈ lw_all := lw_g (lw_at lw_m12 45 rfl) rfl
theorem q2823 : (Jvm.Cond.selects "SortingLoopModel" ({ cls := "SortingLoopModel", name := "truncateInput", desc := "(I)Z" } : Jvm.MethodName) ({ cls := "SortingLoopModel", name := "truncateInput", desc := "(I)Z" } : Jvm.MethodName)) ∈ lw_all := lw_g (lw_at lw_m12 46 rfl) rfl
theorem q2824 : (Jvm.Cond.code ({ cls := "SortingLoopModel", name := "truncateInput", desc := "(I)Z" } : Jvm.MethodName) prog_19_method_44_code (2 : Nat) (Option.some Jvm.ClassFile.FieldType.boolean)) ∈ lw_all := lw_g (lw_at lw_m12 47 rfl) rfl
theorem q2825 : (Jvm.Cond.methodLink "SortingLoopModel" (152 : Nat) ({ cls := "SortingLoopModel", name := "inRange", desc := "(III)Z" } : Jvm.MethodName)) ∈ lw_all := lw_g (lw_at lw_m12 48 rfl) rfl
theorem q2826 : (Jvm.Cond.static ({ cls := "SortingLoopModel", name := "inRange", desc := "(III)Z" } : Jvm.MethodName)) ∈ lw_all := lw_g (lw_at lw_m12 49 rfl) rfl
theorem q2827 : (Jvm.Cond.code ({ cls := "SortingLoopModel", name := "inRange", desc := "(III)Z" } : Jvm.MethodName) prog_19_method_3_code (3 : Nat) (Option.some Jvm.ClassFile.FieldType.boolean)) ∈ lw_all := lw_g (lw_at lw_m12 50 rfl) rfl
theorem q2829 : (Jvm.Cond.instanceMethod ({ cls := "SortingLoopModel", name := "loadLoop", desc := "()I" } : Jvm.MethodName)) ∈ lw_all := lw_g (lw_at lw_m12 52 rfl) rfl
theorem q2830 : (Jvm.Cond.selects "SortingLoopModel" ({ cls := "SortingLoopModel", name := "loadLoop", desc := "()I" } : Jvm.MethodName) ({ cls := "SortingLoopModel", name := "loadLoop", desc := "()I" } : Jvm.MethodName)) ∈ lw_all := lw_g (lw_at lw_m12 53 rfl) rfl
theorem q2831 : (Jvm.Cond.code ({ cls := "SortingLoopModel", name := "loadLoop", desc := "()I" } : Jvm.MethodName) prog_19_method_62_code (2 : Nat) (Option.some Jvm.ClassFile.FieldType.int)) ∈ lw_all := lw_g (lw_at lw_m12 54 rfl) rfl
theorem q2832 : (Jvm.Cond.methodLink "SortingLoopModel" (142 : Nat) ({ cls := "SortingLoopModel", name := "copies", desc := "([II[II)V" } : Jvm.MethodName)) ∈ lw_all := lw_g (lw_at lw_m12 55 rfl) rfl
theorem q2833 : (Jvm.Cond.static ({ cls := "SortingLoopModel", name := "copies", desc := "([II[II)V" } : Jvm.MethodName)) ∈ lw_all := lw_g (lw_at lw_m12 56 rfl) rfl
theorem q2834 : (Jvm.Cond.code ({ cls := "SortingLoopModel", name := "copies", desc := "([II[II)V" } : Jvm.MethodName) prog_19_method_6_code (5 : Nat) (Option.none : Option Jvm.ClassFile.FieldType)) ∈ lw_all := lw_g (lw_at lw_m12 57 rfl) rfl
theorem q2835 : (Jvm.Cond.methodLink "SortingLoopModel" (248 : Nat) ({ cls := "SortingLoopModel", name := "startsText", desc := "()V" } : Jvm.MethodName)) ∈ lw_all := lw_g (lw_at lw_m12 58 rfl) rfl
theorem q2836 : (Jvm.Cond.privateMethod ({ cls := "SortingLoopModel", name := "startsText", desc := "()V" } : Jvm.MethodName)) ∈ lw_tbl := lw_at lw_m12 59 rfl
theorem q2837 : (Jvm.Cond.instanceMethod ({ cls := "SortingLoopModel", name := "startsText", desc := "()V" } : Jvm.MethodName)) ∈ lw_all := lw_g (lw_at lw_m12 60 rfl) rfl
theorem q2838 : (Jvm.Cond.code ({ cls := "SortingLoopModel", name := "startsText", desc := "()V" } : Jvm.MethodName) prog_19_method_60_code (1 : Nat) (Option.none : Option Jvm.ClassFile.FieldType)) ∈ lw_all := lw_g (lw_at lw_m12 61 rfl) rfl
theorem q2839 : (Jvm.Cond.methodLink "SortingLoopModel" (199 : Nat) ({ cls := "SortingLoopModel", name := "advanceToken", desc := "()V" } : Jvm.MethodName)) ∈ lw_all := lw_g (lw_at lw_m12 62 rfl) rfl
theorem q2840 : (Jvm.Cond.privateMethod ({ cls := "SortingLoopModel", name := "advanceToken", desc := "()V" } : Jvm.MethodName)) ∈ lw_tbl := lw_at lw_m12 63 rfl
theorem q2841 : (Jvm.Cond.instanceMethod ({ cls := "SortingLoopModel", name := "advanceToken", desc := "()V" } : Jvm.MethodName)) ∈ lw_all := lw_g (lw_at lw_m12 64 rfl) rfl
theorem q2842 : (Jvm.Cond.code ({ cls := "SortingLoopModel", name := "advanceToken", desc := "()V" } : Jvm.MethodName) prog_19_method_47_code (2 : Nat) (Option.none : Option Jvm.ClassFile.FieldType)) ∈ lw_all := lw_g (lw_at lw_m12 65 rfl) rfl
theorem q2843 : (Jvm.Cond.methodLink "SortingLoopModel" (156 : Nat) ({ cls := "SortingLoopModel", name := "byteAt", desc := "(I)I" } : Jvm.MethodName)) ∈ lw_all := lw_g (lw_at lw_m12 66 rfl) rfl
theorem q2844 : (Jvm.Cond.privateMethod ({ cls := "SortingLoopModel", name := "byteAt", desc := "(I)I" } : Jvm.MethodName)) ∈ lw_tbl := lw_at lw_m12 67 rfl
theorem q2845 : (Jvm.Cond.instanceMethod ({ cls := "SortingLoopModel", name := "byteAt", desc := "(I)I" } : Jvm.MethodName)) ∈ lw_all := lw_g (lw_at lw_m12 68 rfl) rfl
theorem q2846 : (Jvm.Cond.code ({ cls := "SortingLoopModel", name := "byteAt", desc := "(I)I" } : Jvm.MethodName) prog_19_method_45_code (2 : Nat) (Option.some Jvm.ClassFile.FieldType.int)) ∈ lw_all := lw_g (lw_at lw_m12 69 rfl) rfl
theorem q2847 : (Jvm.Cond.methodLink "SortingLoopModel" (171 : Nat) ({ cls := "SortingLoopModel", name := "isLetter", desc := "(I)Z" } : Jvm.MethodName)) ∈ lw_all := lw_g (lw_at lw_m12 70 rfl) rfl
theorem q2848 : (Jvm.Cond.privateMethod ({ cls := "SortingLoopModel", name := "isLetter", desc := "(I)Z" } : Jvm.MethodName)) ∈ lw_tbl := lw_at lw_m12 71 rfl
theorem q2849 : (Jvm.Cond.instanceMethod ({ cls := "SortingLoopModel", name := "isLetter", desc := "(I)Z" } : Jvm.MethodName)) ∈ lw_all := lw_g (lw_at lw_m12 72 rfl) rfl
theorem q2850 : (Jvm.Cond.code ({ cls := "SortingLoopModel", name := "isLetter", desc := "(I)Z" } : Jvm.MethodName) prog_19_method_46_code (2 : Nat) (Option.some Jvm.ClassFile.FieldType.boolean)) ∈ lw_all := lw_g (lw_at lw_m12 73 rfl) rfl
theorem q2851 : (Jvm.Cond.methodLink "SortingLoopModel" (251 : Nat) ({ cls := "SortingLoopModel", name := "readText", desc := "()Z" } : Jvm.MethodName)) ∈ lw_all := lw_g (lw_at lw_m12 74 rfl) rfl
theorem q2852 : (Jvm.Cond.privateMethod ({ cls := "SortingLoopModel", name := "readText", desc := "()Z" } : Jvm.MethodName)) ∈ lw_tbl := lw_at lw_m12 75 rfl
theorem q2853 : (Jvm.Cond.instanceMethod ({ cls := "SortingLoopModel", name := "readText", desc := "()Z" } : Jvm.MethodName)) ∈ lw_all := lw_g (lw_at lw_m12 76 rfl) rfl
theorem q2854 : (Jvm.Cond.code ({ cls := "SortingLoopModel", name := "readText", desc := "()Z" } : Jvm.MethodName) prog_19_method_59_code (1 : Nat) (Option.some Jvm.ClassFile.FieldType.boolean)) ∈ lw_all := lw_g (lw_at lw_m12 77 rfl) rfl
theorem q2855 : (Jvm.Cond.methodLink "SortingLoopModel" (236 : Nat) ({ cls := "SortingLoopModel", name := "readLoop", desc := "()Z" } : Jvm.MethodName)) ∈ lw_all := lw_g (lw_at lw_m12 78 rfl) rfl
theorem q2856 : (Jvm.Cond.privateMethod ({ cls := "SortingLoopModel", name := "readLoop", desc := "()Z" } : Jvm.MethodName)) ∈ lw_tbl := lw_at lw_m12 79 rfl
theorem q2857 : (Jvm.Cond.instanceMethod ({ cls := "SortingLoopModel", name := "readLoop", desc := "()Z" } : Jvm.MethodName)) ∈ lw_all := lw_g (lw_at lw_m12 80 rfl) rfl
theorem q2858 : (Jvm.Cond.code ({ cls := "SortingLoopModel", name := "readLoop", desc := "()Z" } : Jvm.MethodName) prog_19_method_54_code (1 : Nat) (Option.some Jvm.ClassFile.FieldType.boolean)) ∈ lw_all := lw_g (lw_at lw_m12 81 rfl) rfl
theorem q2859 : (Jvm.Cond.stringRef "SortingLoopModel" (205 : Nat) "loop") ∈ lw_tbl := lw_at lw_m12 82 rfl
theorem q2860 : (Jvm.Cond.methodLink "SortingLoopModel" (207 : Nat) ({ cls := "SortingLoopModel", name := "isWord", desc := "(Ljava/lang/String;)Z" } : Jvm.MethodName)) ∈ lw_all := lw_g (lw_at lw_m12 83 rfl) rfl
theorem q2861 : (Jvm.Cond.privateMethod ({ cls := "SortingLoopModel", name := "isWord", desc := "(Ljava/lang/String;)Z" } : Jvm.MethodName)) ∈ lw_tbl := lw_at lw_m12 84 rfl
theorem q2862 : (Jvm.Cond.instanceMethod ({ cls := "SortingLoopModel", name := "isWord", desc := "(Ljava/lang/String;)Z" } : Jvm.MethodName)) ∈ lw_all := lw_g (lw_at lw_m12 85 rfl) rfl
theorem q2863 : (Jvm.Cond.code ({ cls := "SortingLoopModel", name := "isWord", desc := "(Ljava/lang/String;)Z" } : Jvm.MethodName) prog_19_method_49_code (3 : Nat) (Option.some Jvm.ClassFile.FieldType.boolean)) ∈ lw_all := lw_g (lw_at lw_m12 86 rfl) rfl
theorem q2864 : (Jvm.Cond.methodLink "SortingLoopModel" (180 : Nat) ({ cls := "java/lang/String", name := "length", desc := "()I" } : Jvm.MethodName)) ∈ lw_all := lw_g (lw_at lw_m12 87 rfl) rfl
theorem q2865 : (Jvm.Cond.methodLink "SortingLoopModel" (186 : Nat) ({ cls := "java/lang/String", name := "charAt", desc := "(I)C" } : Jvm.MethodName)) ∈ lw_all := lw_g (lw_at lw_m12 88 rfl) rfl
theorem q2866 : (Jvm.Cond.methodLink "SortingLoopModel" (190 : Nat) ({ cls := "SortingLoopModel", name := "failsAt", desc := "(I)Z" } : Jvm.MethodName)) ∈ lw_all := lw_g (lw_at lw_m12 89 rfl) rfl
theorem q2867 : (Jvm.Cond.privateMethod ({ cls := "SortingLoopModel", name := "failsAt", desc := "(I)Z" } : Jvm.MethodName)) ∈ lw_tbl := lw_at lw_m12 90 rfl
theorem q2868 : (Jvm.Cond.instanceMethod ({ cls := "SortingLoopModel", name := "failsAt", desc := "(I)Z" } : Jvm.MethodName)) ∈ lw_all := lw_g (lw_at lw_m12 91 rfl) rfl
theorem q2869 : (Jvm.Cond.code ({ cls := "SortingLoopModel", name := "failsAt", desc := "(I)Z" } : Jvm.MethodName) prog_19_method_48_code (2 : Nat) (Option.some Jvm.ClassFile.FieldType.boolean)) ∈ lw_all := lw_g (lw_at lw_m12 92 rfl) rfl
theorem q2870 : (Jvm.Cond.methodLink "SortingLoopModel" (211 : Nat) ({ cls := "SortingLoopModel", name := "takes", desc := "(III)Z" } : Jvm.MethodName)) ∈ lw_all := lw_g (lw_at lw_m12 93 rfl) rfl
theorem q2871 : (Jvm.Cond.privateMethod ({ cls := "SortingLoopModel", name := "takes", desc := "(III)Z" } : Jvm.MethodName)) ∈ lw_tbl := lw_at lw_m12 94 rfl
theorem q2872 : (Jvm.Cond.instanceMethod ({ cls := "SortingLoopModel", name := "takes", desc := "(III)Z" } : Jvm.MethodName)) ∈ lw_all := lw_g (lw_at lw_m12 95 rfl) rfl
theorem q2873 : (Jvm.Cond.code ({ cls := "SortingLoopModel", name := "takes", desc := "(III)Z" } : Jvm.MethodName) prog_19_method_53_code (4 : Nat) (Option.some Jvm.ClassFile.FieldType.boolean)) ∈ lw_all := lw_g (lw_at lw_m12 96 rfl) rfl
theorem q2874 : (Jvm.Cond.methodLink "SortingLoopModel" (202 : Nat) ({ cls := "SortingLoopModel", name := "takesNumber", desc := "(II)Z" } : Jvm.MethodName)) ∈ lw_all := lw_g (lw_at lw_m12 97 rfl) rfl
theorem q2875 : (Jvm.Cond.privateMethod ({ cls := "SortingLoopModel", name := "takesNumber", desc := "(II)Z" } : Jvm.MethodName)) ∈ lw_tbl := lw_at lw_m12 98 rfl
theorem q2876 : (Jvm.Cond.instanceMethod ({ cls := "SortingLoopModel", name := "takesNumber", desc := "(II)Z" } : Jvm.MethodName)) ∈ lw_all := lw_g (lw_at lw_m12 99 rfl) rfl
theorem q2877 : (Jvm.Cond.code ({ cls := "SortingLoopModel", name := "takesNumber", desc := "(II)Z" } : Jvm.MethodName) prog_19_method_51_code (3 : Nat) (Option.some Jvm.ClassFile.FieldType.boolean)) ∈ lw_all := lw_g (lw_at lw_m12 100 rfl) rfl
theorem q2878 : (Jvm.Cond.methodLink "SortingLoopModel" (196 : Nat) ({ cls := "SortingLoopModel", name := "seesNumber", desc := "(II)Z" } : Jvm.MethodName)) ∈ lw_all := lw_g (lw_at lw_m12 101 rfl) rfl
theorem q2879 : (Jvm.Cond.privateMethod ({ cls := "SortingLoopModel", name := "seesNumber", desc := "(II)Z" } : Jvm.MethodName)) ∈ lw_tbl := lw_at lw_m12 102 rfl
theorem q2880 : (Jvm.Cond.instanceMethod ({ cls := "SortingLoopModel", name := "seesNumber", desc := "(II)Z" } : Jvm.MethodName)) ∈ lw_all := lw_g (lw_at lw_m12 103 rfl) rfl
theorem q2881 : (Jvm.Cond.code ({ cls := "SortingLoopModel", name := "seesNumber", desc := "(II)Z" } : Jvm.MethodName) prog_19_method_50_code (3 : Nat) (Option.some Jvm.ClassFile.FieldType.boolean)) ∈ lw_all := lw_g (lw_at lw_m12 104 rfl) rfl
theorem q2882 : (Jvm.Cond.methodLink "SortingLoopModel" (214 : Nat) ({ cls := "SortingLoopModel", name := "takesSemicolon", desc := "()Z" } : Jvm.MethodName)) ∈ lw_all := lw_g (lw_at lw_m12 105 rfl) rfl
theorem q2883 : (Jvm.Cond.privateMethod ({ cls := "SortingLoopModel", name := "takesSemicolon", desc := "()Z" } : Jvm.MethodName)) ∈ lw_tbl := lw_at lw_m12 106 rfl
theorem q2884 : (Jvm.Cond.instanceMethod ({ cls := "SortingLoopModel", name := "takesSemicolon", desc := "()Z" } : Jvm.MethodName)) ∈ lw_all := lw_g (lw_at lw_m12 107 rfl) rfl
theorem q2885 : (Jvm.Cond.code ({ cls := "SortingLoopModel", name := "takesSemicolon", desc := "()Z" } : Jvm.MethodName) prog_19_method_52_code (1 : Nat) (Option.some Jvm.ClassFile.FieldType.boolean)) ∈ lw_all := lw_g (lw_at lw_m12 108 rfl) rfl
theorem q2886 : (Jvm.Cond.methodLink "SortingLoopModel" (239 : Nat) ({ cls := "SortingLoopModel", name := "readSetupStatement", desc := "()Z" } : Jvm.MethodName)) ∈ lw_all := lw_g (lw_at lw_m12 109 rfl) rfl
theorem q2887 : (Jvm.Cond.privateMethod ({ cls := "SortingLoopModel", name := "readSetupStatement", desc := "()Z" } : Jvm.MethodName)) ∈ lw_tbl := lw_at lw_m12 110 rfl
theorem q2888 : (Jvm.Cond.instanceMethod ({ cls := "SortingLoopModel", name := "readSetupStatement", desc := "()Z" } : Jvm.MethodName)) ∈ lw_all := lw_g (lw_at lw_m12 111 rfl) rfl
theorem q2889 : (Jvm.Cond.code ({ cls := "SortingLoopModel", name := "readSetupStatement", desc := "()Z" } : Jvm.MethodName) prog_19_method_58_code (1 : Nat) (Option.some Jvm.ClassFile.FieldType.boolean)) ∈ lw_all := lw_g (lw_at lw_m12 112 rfl) rfl
theorem q2890 : (Jvm.Cond.stringRef "SortingLoopModel" (221 : Nat) "scanner") ∈ lw_tbl := lw_at lw_m12 113 rfl
theorem q2891 : (Jvm.Cond.methodLink "SortingLoopModel" (223 : Nat) ({ cls := "SortingLoopModel", name := "readScanner", desc := "()Z" } : Jvm.MethodName)) ∈ lw_all := lw_g (lw_at lw_m12 114 rfl) rfl
theorem q2892 : (Jvm.Cond.privateMethod ({ cls := "SortingLoopModel", name := "readScanner", desc := "()Z" } : Jvm.MethodName)) ∈ lw_tbl := lw_at lw_m12 115 rfl
theorem q2893 : (Jvm.Cond.instanceMethod ({ cls := "SortingLoopModel", name := "readScanner", desc := "()Z" } : Jvm.MethodName)) ∈ lw_all := lw_g (lw_at lw_m12 116 rfl) rfl
theorem q2894 : (Jvm.Cond.code ({ cls := "SortingLoopModel", name := "readScanner", desc := "()Z" } : Jvm.MethodName) prog_19_method_55_code (1 : Nat) (Option.some Jvm.ClassFile.FieldType.boolean)) ∈ lw_all := lw_g (lw_at lw_m12 117 rfl) rfl
theorem q2895 : (Jvm.Cond.methodLink "SortingLoopModel" (120 : Nat) ({ cls := "SortingLoopModel", name := "hasScanner", desc := "(I)Z" } : Jvm.MethodName)) ∈ lw_all := lw_g (lw_at lw_m12 118 rfl) rfl
theorem q2896 : (Jvm.Cond.privateMethod ({ cls := "SortingLoopModel", name := "hasScanner", desc := "(I)Z" } : Jvm.MethodName)) ∈ lw_tbl := lw_at lw_m12 119 rfl
theorem q2897 : (Jvm.Cond.instanceMethod ({ cls := "SortingLoopModel", name := "hasScanner", desc := "(I)Z" } : Jvm.MethodName)) ∈ lw_all := lw_g (lw_at lw_m12 120 rfl) rfl
theorem q2898 : (Jvm.Cond.code ({ cls := "SortingLoopModel", name := "hasScanner", desc := "(I)Z" } : Jvm.MethodName) prog_19_method_19_code (3 : Nat) (Option.some Jvm.ClassFile.FieldType.boolean)) ∈ lw_all := lw_g (lw_at lw_m12 121 rfl) rfl
theorem q2899 : (Jvm.Cond.stringRef "SortingLoopModel" (226 : Nat) "chute") ∈ lw_tbl := lw_at lw_m12 122 rfl
theorem q2900 : (Jvm.Cond.methodLink "SortingLoopModel" (228 : Nat) ({ cls := "SortingLoopModel", name := "readChute", desc := "()Z" } : Jvm.MethodName)) ∈ lw_all := lw_g (lw_at lw_m12 123 rfl) rfl
theorem q2901 : (Jvm.Cond.privateMethod ({ cls := "SortingLoopModel", name := "readChute", desc := "()Z" } : Jvm.MethodName)) ∈ lw_tbl := lw_at lw_m12 124 rfl
theorem q2902 : (Jvm.Cond.instanceMethod ({ cls := "SortingLoopModel", name := "readChute", desc := "()Z" } : Jvm.MethodName)) ∈ lw_all := lw_g (lw_at lw_m12 125 rfl) rfl
theorem q2903 : (Jvm.Cond.code ({ cls := "SortingLoopModel", name := "readChute", desc := "()Z" } : Jvm.MethodName) prog_19_method_56_code (1 : Nat) (Option.some Jvm.ClassFile.FieldType.boolean)) ∈ lw_all := lw_g (lw_at lw_m12 126 rfl) rfl
theorem q2904 : (Jvm.Cond.methodLink "SortingLoopModel" (218 : Nat) ({ cls := "SortingLoopModel", name := "chuteAt", desc := "(I)I" } : Jvm.MethodName)) ∈ lw_all := lw_g (lw_at lw_m12 127 rfl) rfl
theorem q2905 : (Jvm.Cond.privateMethod ({ cls := "SortingLoopModel", name := "chuteAt", desc := "(I)I" } : Jvm.MethodName)) ∈ lw_tbl := lw_at lw_m12 128 rfl
theorem q2906 : (Jvm.Cond.instanceMethod ({ cls := "SortingLoopModel", name := "chuteAt", desc := "(I)I" } : Jvm.MethodName)) ∈ lw_all := lw_g (lw_at lw_m12 129 rfl) rfl
theorem q2907 : (Jvm.Cond.code ({ cls := "SortingLoopModel", name := "chuteAt", desc := "(I)I" } : Jvm.MethodName) prog_19_method_20_code (3 : Nat) (Option.some Jvm.ClassFile.FieldType.int)) ∈ lw_all := lw_g (lw_at lw_m12 130 rfl) rfl
theorem q2908 : (Jvm.Cond.methodLink "SortingLoopModel" (78 : Nat) ({ cls := "SortingLoopModel", name := "ofChute", desc := "(II)I" } : Jvm.MethodName)) ∈ lw_all := lw_g (lw_at lw_m12 131 rfl) rfl
theorem q2909 : (Jvm.Cond.privateMethod ({ cls := "SortingLoopModel", name := "ofChute", desc := "(II)I" } : Jvm.MethodName)) ∈ lw_tbl := lw_at lw_m12 132 rfl
theorem q2910 : (Jvm.Cond.instanceMethod ({ cls := "SortingLoopModel", name := "ofChute", desc := "(II)I" } : Jvm.MethodName)) ∈ lw_all := lw_g (lw_at lw_m12 133 rfl) rfl
theorem q2911 : (Jvm.Cond.code ({ cls := "SortingLoopModel", name := "ofChute", desc := "(II)I" } : Jvm.MethodName) prog_19_method_9_code (3 : Nat) (Option.some Jvm.ClassFile.FieldType.int)) ∈ lw_all := lw_g (lw_at lw_m12 134 rfl) rfl
theorem q2912 : (Jvm.Cond.stringRef "SortingLoopModel" (231 : Nat) "rounds") ∈ lw_tbl := lw_at lw_m12 135 rfl
theorem q2913 : (Jvm.Cond.methodLink "SortingLoopModel" (233 : Nat) ({ cls := "SortingLoopModel", name := "readRounds", desc := "()Z" } : Jvm.MethodName)) ∈ lw_all := lw_g (lw_at lw_m12 136 rfl) rfl
theorem q2914 : (Jvm.Cond.privateMethod ({ cls := "SortingLoopModel", name := "readRounds", desc := "()Z" } : Jvm.MethodName)) ∈ lw_tbl := lw_at lw_m12 137 rfl
theorem q2915 : (Jvm.Cond.instanceMethod ({ cls := "SortingLoopModel", name := "readRounds", desc := "()Z" } : Jvm.MethodName)) ∈ lw_all := lw_g (lw_at lw_m12 138 rfl) rfl
theorem q2916 : (Jvm.Cond.code ({ cls := "SortingLoopModel", name := "readRounds", desc := "()Z" } : Jvm.MethodName) prog_19_method_57_code (1 : Nat) (Option.some Jvm.ClassFile.FieldType.boolean)) ∈ lw_all := lw_g (lw_at lw_m12 139 rfl) rfl
theorem q2917 : (Jvm.Cond.methodLink "SortingLoopModel" (254 : Nat) ({ cls := "SortingLoopModel", name := "endsText", desc := "()V" } : Jvm.MethodName)) ∈ lw_all := lw_g (lw_at lw_m12 140 rfl) rfl
theorem q2918 : (Jvm.Cond.privateMethod ({ cls := "SortingLoopModel", name := "endsText", desc := "()V" } : Jvm.MethodName)) ∈ lw_tbl := lw_at lw_m12 141 rfl
theorem q2919 : (Jvm.Cond.instanceMethod ({ cls := "SortingLoopModel", name := "endsText", desc := "()V" } : Jvm.MethodName)) ∈ lw_all := lw_g (lw_at lw_m12 142 rfl) rfl
theorem q2920 : (Jvm.Cond.code ({ cls := "SortingLoopModel", name := "endsText", desc := "()V" } : Jvm.MethodName) prog_19_method_61_code (1 : Nat) (Option.none : Option Jvm.ClassFile.FieldType)) ∈ lw_all := lw_g (lw_at lw_m12 143 rfl) rfl
theorem q2922 : (Jvm.Cond.instanceMethod ({ cls := "SortingLoopModel", name := "playScript", desc := "()I" } : Jvm.MethodName)) ∈ lw_all := lw_g (lw_at lw_m12 145 rfl) rfl
theorem q2923 : (Jvm.Cond.selects "SortingLoopModel" ({ cls := "SortingLoopModel", name := "playScript", desc := "()I" } : Jvm.MethodName) ({ cls := "SortingLoopModel", name := "playScript", desc := "()I" } : Jvm.MethodName)) ∈ lw_all := lw_g (lw_at lw_m12 146 rfl) rfl
theorem q2924 : (Jvm.Cond.code ({ cls := "SortingLoopModel", name := "playScript", desc := "()I" } : Jvm.MethodName) prog_19_method_67_code (3 : Nat) (Option.some Jvm.ClassFile.FieldType.int)) ∈ lw_all := lw_g (lw_at lw_m12 147 rfl) rfl
theorem q2925 : (Jvm.Cond.methodLink "SortingLoopModel" (305 : Nat) ({ cls := "SortingLoopModel", name := "readScriptStatement", desc := "()Z" } : Jvm.MethodName)) ∈ lw_all := lw_g (lw_at lw_m12 148 rfl) rfl
theorem q2926 : (Jvm.Cond.privateMethod ({ cls := "SortingLoopModel", name := "readScriptStatement", desc := "()Z" } : Jvm.MethodName)) ∈ lw_tbl := lw_at lw_m12 149 rfl
theorem q2927 : (Jvm.Cond.instanceMethod ({ cls := "SortingLoopModel", name := "readScriptStatement", desc := "()Z" } : Jvm.MethodName)) ∈ lw_all := lw_g (lw_at lw_m12 150 rfl) rfl
theorem q2928 : (Jvm.Cond.code ({ cls := "SortingLoopModel", name := "readScriptStatement", desc := "()Z" } : Jvm.MethodName) prog_19_method_65_code (2 : Nat) (Option.some Jvm.ClassFile.FieldType.boolean)) ∈ lw_all := lw_g (lw_at lw_m12 151 rfl) rfl
theorem q2929 : (Jvm.Cond.methodLink "SortingLoopModel" (275 : Nat) ({ cls := "SortingLoopModel", name := "scriptHere", desc := "()I" } : Jvm.MethodName)) ∈ lw_all := lw_g (lw_at lw_m12 152 rfl) rfl
theorem q2930 : (Jvm.Cond.privateMethod ({ cls := "SortingLoopModel", name := "scriptHere", desc := "()I" } : Jvm.MethodName)) ∈ lw_tbl := lw_at lw_m12 153 rfl
theorem q2931 : (Jvm.Cond.instanceMethod ({ cls := "SortingLoopModel", name := "scriptHere", desc := "()I" } : Jvm.MethodName)) ∈ lw_all := lw_g (lw_at lw_m12 154 rfl) rfl
theorem q2932 : (Jvm.Cond.code ({ cls := "SortingLoopModel", name := "scriptHere", desc := "()I" } : Jvm.MethodName) prog_19_method_63_code (1 : Nat) (Option.some Jvm.ClassFile.FieldType.int)) ∈ lw_all := lw_g (lw_at lw_m12 155 rfl) rfl
theorem q2933 : (Jvm.Cond.stringRef "SortingLoopModel" (261 : Nat) "put") ∈ lw_tbl := lw_at lw_m12 156 rfl
theorem q2934 : (Jvm.Cond.stringRef "SortingLoopModel" (263 : Nat) "tick") ∈ lw_tbl := lw_at lw_m12 157 rfl
theorem q2935 : (Jvm.Cond.stringRef "SortingLoopModel" (265 : Nat) "slip") ∈ lw_tbl := lw_at lw_m12 158 rfl
theorem q2936 : (Jvm.Cond.stringRef "SortingLoopModel" (267 : Nat) "empty") ∈ lw_tbl := lw_at lw_m12 159 rfl
theorem q2937 : (Jvm.Cond.stringRef "SortingLoopModel" (269 : Nat) "shut") ∈ lw_tbl := lw_at lw_m12 160 rfl
theorem q2938 : (Jvm.Cond.stringRef "SortingLoopModel" (271 : Nat) "open") ∈ lw_tbl := lw_at lw_m12 161 rfl
theorem q2939 : (Jvm.Cond.stringRef "SortingLoopModel" (273 : Nat) "window") ∈ lw_tbl := lw_at lw_m12 162 rfl
theorem q2940 : (Jvm.Cond.methodLink "SortingLoopModel" (278 : Nat) ({ cls := "SortingLoopModel", name := "takesRest", desc := "(I)Z" } : Jvm.MethodName)) ∈ lw_all := lw_g (lw_at lw_m12 163 rfl) rfl
theorem q2941 : (Jvm.Cond.privateMethod ({ cls := "SortingLoopModel", name := "takesRest", desc := "(I)Z" } : Jvm.MethodName)) ∈ lw_tbl := lw_at lw_m12 164 rfl
theorem q2942 : (Jvm.Cond.instanceMethod ({ cls := "SortingLoopModel", name := "takesRest", desc := "(I)Z" } : Jvm.MethodName)) ∈ lw_all := lw_g (lw_at lw_m12 165 rfl) rfl
theorem q2943 : (Jvm.Cond.code ({ cls := "SortingLoopModel", name := "takesRest", desc := "(I)Z" } : Jvm.MethodName) prog_19_method_64_code (2 : Nat) (Option.some Jvm.ClassFile.FieldType.boolean)) ∈ lw_all := lw_g (lw_at lw_m12 166 rfl) rfl
theorem q2944 : (Jvm.Cond.methodLink "SortingLoopModel" (308 : Nat) ({ cls := "SortingLoopModel", name := "remembers", desc := "()V" } : Jvm.MethodName)) ∈ lw_all := lw_g (lw_at lw_m12 167 rfl) rfl
theorem q2945 : (Jvm.Cond.privateMethod ({ cls := "SortingLoopModel", name := "remembers", desc := "()V" } : Jvm.MethodName)) ∈ lw_tbl := lw_at lw_m12 168 rfl
theorem q2946 : (Jvm.Cond.instanceMethod ({ cls := "SortingLoopModel", name := "remembers", desc := "()V" } : Jvm.MethodName)) ∈ lw_all := lw_g (lw_at lw_m12 169 rfl) rfl
theorem q2947 : (Jvm.Cond.code ({ cls := "SortingLoopModel", name := "remembers", desc := "()V" } : Jvm.MethodName) prog_19_method_39_code (2 : Nat) (Option.none : Option Jvm.ClassFile.FieldType)) ∈ lw_all := lw_g (lw_at lw_m12 170 rfl) rfl
theorem q2948 : (Jvm.Cond.methodLink "SortingLoopModel" (311 : Nat) ({ cls := "SortingLoopModel", name := "does", desc := "(I)Z" } : Jvm.MethodName)) ∈ lw_all := lw_g (lw_at lw_m12 171 rfl) rfl
theorem q2949 : (Jvm.Cond.privateMethod ({ cls := "SortingLoopModel", name := "does", desc := "(I)Z" } : Jvm.MethodName)) ∈ lw_tbl := lw_at lw_m12 172 rfl
theorem q2950 : (Jvm.Cond.instanceMethod ({ cls := "SortingLoopModel", name := "does", desc := "(I)Z" } : Jvm.MethodName)) ∈ lw_all := lw_g (lw_at lw_m12 173 rfl) rfl
theorem q2951 : (Jvm.Cond.code ({ cls := "SortingLoopModel", name := "does", desc := "(I)Z" } : Jvm.MethodName) prog_19_method_66_code (4 : Nat) (Option.some Jvm.ClassFile.FieldType.boolean)) ∈ lw_all := lw_g (lw_at lw_m12 174 rfl) rfl
theorem q2952 : (Jvm.Cond.methodLink "SortingLoopModel" (281 : Nat) ({ cls := "SortingLoopModel", name := "barsPut", desc := "()I" } : Jvm.MethodName)) ∈ lw_all := lw_g (lw_at lw_m12 175 rfl) rfl
theorem q2953 : (Jvm.Cond.privateMethod ({ cls := "SortingLoopModel", name := "barsPut", desc := "()I" } : Jvm.MethodName)) ∈ lw_tbl := lw_at lw_m12 176 rfl
theorem q2954 : (Jvm.Cond.instanceMethod ({ cls := "SortingLoopModel", name := "barsPut", desc := "()I" } : Jvm.MethodName)) ∈ lw_all := lw_g (lw_at lw_m12 177 rfl) rfl
theorem q2955 : (Jvm.Cond.code ({ cls := "SortingLoopModel", name := "barsPut", desc := "()I" } : Jvm.MethodName) prog_19_method_32_code (1 : Nat) (Option.some Jvm.ClassFile.FieldType.int)) ∈ lw_all := lw_g (lw_at lw_m12 178 rfl) rfl
theorem q2956 : (Jvm.Cond.methodLink "SortingLoopModel" (101 : Nat) ({ cls := "SortingLoopModel", name := "parcelIn", desc := "(I)I" } : Jvm.MethodName)) ∈ lw_all := lw_g (lw_at lw_m12 179 rfl) rfl
theorem q2957 : (Jvm.Cond.privateMethod ({ cls := "SortingLoopModel", name := "parcelIn", desc := "(I)I" } : Jvm.MethodName)) ∈ lw_tbl := lw_at lw_m12 180 rfl
theorem q2958 : (Jvm.Cond.instanceMethod ({ cls := "SortingLoopModel", name := "parcelIn", desc := "(I)I" } : Jvm.MethodName)) ∈ lw_all := lw_g (lw_at lw_m12 181 rfl) rfl
theorem q2959 : (Jvm.Cond.code ({ cls := "SortingLoopModel", name := "parcelIn", desc := "(I)I" } : Jvm.MethodName) prog_19_method_18_code (3 : Nat) (Option.some Jvm.ClassFile.FieldType.int)) ∈ lw_all := lw_g (lw_at lw_m12 182 rfl) rfl
theorem q2960 : (Jvm.Cond.methodLink "SortingLoopModel" (66 : Nat) ({ cls := "SortingLoopModel", name := "isOn", desc := "(I)Z" } : Jvm.MethodName)) ∈ lw_all := lw_g (lw_at lw_m12 183 rfl) rfl
theorem q2961 : (Jvm.Cond.privateMethod ({ cls := "SortingLoopModel", name := "isOn", desc := "(I)Z" } : Jvm.MethodName)) ∈ lw_tbl := lw_at lw_m12 184 rfl
theorem q2962 : (Jvm.Cond.instanceMethod ({ cls := "SortingLoopModel", name := "isOn", desc := "(I)Z" } : Jvm.MethodName)) ∈ lw_all := lw_g (lw_at lw_m12 185 rfl) rfl
theorem q2963 : (Jvm.Cond.code ({ cls := "SortingLoopModel", name := "isOn", desc := "(I)Z" } : Jvm.MethodName) prog_19_method_14_code (2 : Nat) (Option.some Jvm.ClassFile.FieldType.boolean)) ∈ lw_all := lw_g (lw_at lw_m12 186 rfl) rfl
theorem q2964 : (Jvm.Cond.methodLink "SortingLoopModel" (62 : Nat) ({ cls := "SortingLoopModel", name := "of", desc := "(II)I" } : Jvm.MethodName)) ∈ lw_all := lw_g (lw_at lw_m12 187 rfl) rfl
theorem q2965 : (Jvm.Cond.privateMethod ({ cls := "SortingLoopModel", name := "of", desc := "(II)I" } : Jvm.MethodName)) ∈ lw_tbl := lw_at lw_m12 188 rfl
theorem q2966 : (Jvm.Cond.instanceMethod ({ cls := "SortingLoopModel", name := "of", desc := "(II)I" } : Jvm.MethodName)) ∈ lw_all := lw_g (lw_at lw_m12 189 rfl) rfl
theorem q2967 : (Jvm.Cond.code ({ cls := "SortingLoopModel", name := "of", desc := "(II)I" } : Jvm.MethodName) prog_19_method_11_code (3 : Nat) (Option.some Jvm.ClassFile.FieldType.int)) ∈ lw_all := lw_g (lw_at lw_m12 190 rfl) rfl
theorem q2968 : (Jvm.Cond.methodLink "SortingLoopModel" (284 : Nat) ({ cls := "SortingLoopModel", name := "comes", desc := "(II)I" } : Jvm.MethodName)) ∈ lw_all := lw_g (lw_at lw_m12 191 rfl) rfl
theorem q2969 : (Jvm.Cond.privateMethod ({ cls := "SortingLoopModel", name := "comes", desc := "(II)I" } : Jvm.MethodName)) ∈ lw_tbl := lw_at lw_m12 192 rfl
theorem q2970 : (Jvm.Cond.instanceMethod ({ cls := "SortingLoopModel", name := "comes", desc := "(II)I" } : Jvm.MethodName)) ∈ lw_all := lw_g (lw_at lw_m12 193 rfl) rfl
theorem q2971 : (Jvm.Cond.code ({ cls := "SortingLoopModel", name := "comes", desc := "(II)I" } : Jvm.MethodName) prog_19_method_34_code (4 : Nat) (Option.some Jvm.ClassFile.FieldType.int)) ∈ lw_all := lw_g (lw_at lw_m12 194 rfl) rfl
theorem q2972 : (Jvm.Cond.methodLink "SortingLoopModel" (85 : Nat) ({ cls := "SortingLoopModel", name := "puts", desc := "(III)V" } : Jvm.MethodName)) ∈ lw_all := lw_g (lw_at lw_m12 195 rfl) rfl
theorem q2973 : (Jvm.Cond.privateMethod ({ cls := "SortingLoopModel", name := "puts", desc := "(III)V" } : Jvm.MethodName)) ∈ lw_tbl := lw_at lw_m12 196 rfl
theorem q2974 : (Jvm.Cond.instanceMethod ({ cls := "SortingLoopModel", name := "puts", desc := "(III)V" } : Jvm.MethodName)) ∈ lw_all := lw_g (lw_at lw_m12 197 rfl) rfl
theorem q2975 : (Jvm.Cond.code ({ cls := "SortingLoopModel", name := "puts", desc := "(III)V" } : Jvm.MethodName) prog_19_method_12_code (4 : Nat) (Option.none : Option Jvm.ClassFile.FieldType)) ∈ lw_all := lw_g (lw_at lw_m12 198 rfl) rfl
theorem q2976 : (Jvm.Cond.methodLink "SortingLoopModel" (91 : Nat) ({ cls := "SortingLoopModel", name := "counts", desc := "(II)V" } : Jvm.MethodName)) ∈ lw_all := lw_g (lw_at lw_m12 199 rfl) rfl
theorem q2977 : (Jvm.Cond.privateMethod ({ cls := "SortingLoopModel", name := "counts", desc := "(II)V" } : Jvm.MethodName)) ∈ lw_tbl := lw_at lw_m12 200 rfl
theorem q2978 : (Jvm.Cond.instanceMethod ({ cls := "SortingLoopModel", name := "counts", desc := "(II)V" } : Jvm.MethodName)) ∈ lw_all := lw_g (lw_at lw_m12 201 rfl) rfl
theorem q2979 : (Jvm.Cond.code ({ cls := "SortingLoopModel", name := "counts", desc := "(II)V" } : Jvm.MethodName) prog_19_method_7_code (3 : Nat) (Option.none : Option Jvm.ClassFile.FieldType)) ∈ lw_all := lw_g (lw_at lw_m12 202 rfl) rfl
theorem q2980 : (Jvm.Cond.methodLink "SortingLoopModel" (287 : Nat) ({ cls := "SortingLoopModel", name := "ticksMany", desc := "(I)I" } : Jvm.MethodName)) ∈ lw_all := lw_g (lw_at lw_m12 203 rfl) rfl
theorem q2981 : (Jvm.Cond.privateMethod ({ cls := "SortingLoopModel", name := "ticksMany", desc := "(I)I" } : Jvm.MethodName)) ∈ lw_tbl := lw_at lw_m12 204 rfl
theorem q2982 : (Jvm.Cond.instanceMethod ({ cls := "SortingLoopModel", name := "ticksMany", desc := "(I)I" } : Jvm.MethodName)) ∈ lw_all := lw_g (lw_at lw_m12 205 rfl) rfl
theorem q2983 : (Jvm.Cond.code ({ cls := "SortingLoopModel", name := "ticksMany", desc := "(I)I" } : Jvm.MethodName) prog_19_method_31_code (4 : Nat) (Option.some Jvm.ClassFile.FieldType.int)) ∈ lw_all := lw_g (lw_at lw_m12 206 rfl) rfl
theorem q2984 : (Jvm.Cond.methodLink "SortingLoopModel" (133 : Nat) ({ cls := "SortingLoopModel", name := "inState", desc := "(I)I" } : Jvm.MethodName)) ∈ lw_all := lw_g (lw_at lw_m12 207 rfl) rfl
theorem q2985 : (Jvm.Cond.privateMethod ({ cls := "SortingLoopModel", name := "inState", desc := "(I)I" } : Jvm.MethodName)) ∈ lw_tbl := lw_at lw_m12 208 rfl
theorem q2986 : (Jvm.Cond.instanceMethod ({ cls := "SortingLoopModel", name := "inState", desc := "(I)I" } : Jvm.MethodName)) ∈ lw_all := lw_g (lw_at lw_m12 209 rfl) rfl
theorem q2987 : (Jvm.Cond.code ({ cls := "SortingLoopModel", name := "inState", desc := "(I)I" } : Jvm.MethodName) prog_19_method_21_code (4 : Nat) (Option.some Jvm.ClassFile.FieldType.int)) ∈ lw_all := lw_g (lw_at lw_m12 210 rfl) rfl
theorem q2988 : (Jvm.Cond.methodLink "SortingLoopModel" (81 : Nat) ({ cls := "SortingLoopModel", name := "one", desc := "(Z)I" } : Jvm.MethodName)) ∈ lw_all := lw_g (lw_at lw_m12 211 rfl) rfl
theorem q2989 : (Jvm.Cond.static ({ cls := "SortingLoopModel", name := "one", desc := "(Z)I" } : Jvm.MethodName)) ∈ lw_all := lw_g (lw_at lw_m12 212 rfl) rfl
theorem q2990 : (Jvm.Cond.code ({ cls := "SortingLoopModel", name := "one", desc := "(Z)I" } : Jvm.MethodName) prog_19_method_4_code (1 : Nat) (Option.some Jvm.ClassFile.FieldType.int)) ∈ lw_all := lw_g (lw_at lw_m12 213 rfl) rfl
theorem q2991 : (Jvm.Cond.methodLink "SortingLoopModel" (136 : Nat) ({ cls := "SortingLoopModel", name := "ticksOne", desc := "()V" } : Jvm.MethodName)) ∈ lw_all := lw_g (lw_at lw_m12 214 rfl) rfl
theorem q2992 : (Jvm.Cond.privateMethod ({ cls := "SortingLoopModel", name := "ticksOne", desc := "()V" } : Jvm.MethodName)) ∈ lw_tbl := lw_at lw_m12 215 rfl
theorem q2993 : (Jvm.Cond.instanceMethod ({ cls := "SortingLoopModel", name := "ticksOne", desc := "()V" } : Jvm.MethodName)) ∈ lw_all := lw_g (lw_at lw_m12 216 rfl) rfl
theorem q2994 : (Jvm.Cond.code ({ cls := "SortingLoopModel", name := "ticksOne", desc := "()V" } : Jvm.MethodName) prog_19_method_30_code (3 : Nat) (Option.none : Option Jvm.ClassFile.FieldType)) ∈ lw_all := lw_g (lw_at lw_m12 217 rfl) rfl
theorem q2995 : (Jvm.Cond.methodLink "SortingLoopModel" (113 : Nat) ({ cls := "java/lang/Math", name := "max", desc := "(II)I" } : Jvm.MethodName)) ∈ lw_all := lw_g (lw_at lw_m12 218 rfl) rfl
theorem q2996 : (Jvm.Cond.methodLink "SortingLoopModel" (116 : Nat) ({ cls := "SortingLoopModel", name := "goes", desc := "(I)V" } : Jvm.MethodName)) ∈ lw_all := lw_g (lw_at lw_m12 219 rfl) rfl
theorem q2997 : (Jvm.Cond.privateMethod ({ cls := "SortingLoopModel", name := "goes", desc := "(I)V" } : Jvm.MethodName)) ∈ lw_tbl := lw_at lw_m12 220 rfl
theorem q2998 : (Jvm.Cond.instanceMethod ({ cls := "SortingLoopModel", name := "goes", desc := "(I)V" } : Jvm.MethodName)) ∈ lw_all := lw_g (lw_at lw_m12 221 rfl) rfl
theorem q2999 : (Jvm.Cond.code ({ cls := "SortingLoopModel", name := "goes", desc := "(I)V" } : Jvm.MethodName) prog_19_method_24_code (3 : Nat) (Option.none : Option Jvm.ClassFile.FieldType)) ∈ lw_all := lw_g (lw_at lw_m12 222 rfl) rfl
theorem q3000 : (Jvm.Cond.methodLink "SortingLoopModel" (88 : Nat) ({ cls := "SortingLoopModel", name := "leaves", desc := "(II)V" } : Jvm.MethodName)) ∈ lw_all := lw_g (lw_at lw_m12 223 rfl) rfl
theorem q3001 : (Jvm.Cond.privateMethod ({ cls := "SortingLoopModel", name := "leaves", desc := "(II)V" } : Jvm.MethodName)) ∈ lw_tbl := lw_at lw_m12 224 rfl
theorem q3002 : (Jvm.Cond.instanceMethod ({ cls := "SortingLoopModel", name := "leaves", desc := "(II)V" } : Jvm.MethodName)) ∈ lw_all := lw_g (lw_at lw_m12 225 rfl) rfl
theorem q3003 : (Jvm.Cond.code ({ cls := "SortingLoopModel", name := "leaves", desc := "(II)V" } : Jvm.MethodName) prog_19_method_23_code (3 : Nat) (Option.none : Option Jvm.ClassFile.FieldType)) ∈ lw_all := lw_g (lw_at lw_m12 226 rfl) rfl
theorem q3004 : (Jvm.Cond.methodLink "SortingLoopModel" (123 : Nat) ({ cls := "SortingLoopModel", name := "reads", desc := "(I)V" } : Jvm.MethodName)) ∈ lw_all := lw_g (lw_at lw_m12 227 rfl) rfl
theorem q3005 : (Jvm.Cond.privateMethod ({ cls := "SortingLoopModel", name := "reads", desc := "(I)V" } : Jvm.MethodName)) ∈ lw_tbl := lw_at lw_m12 228 rfl
theorem q3006 : (Jvm.Cond.instanceMethod ({ cls := "SortingLoopModel", name := "reads", desc := "(I)V" } : Jvm.MethodName)) ∈ lw_all := lw_g (lw_at lw_m12 229 rfl) rfl
theorem q3007 : (Jvm.Cond.code ({ cls := "SortingLoopModel", name := "reads", desc := "(I)V" } : Jvm.MethodName) prog_19_method_25_code (2 : Nat) (Option.none : Option Jvm.ClassFile.FieldType)) ∈ lw_all := lw_g (lw_at lw_m12 230 rfl) rfl
theorem q3008 : (Jvm.Cond.methodLink "SortingLoopModel" (94 : Nat) ({ cls := "SortingLoopModel", name := "lagOf", desc := "(I)I" } : Jvm.MethodName)) ∈ lw_all := lw_g (lw_at lw_m12 231 rfl) rfl
theorem q3009 : (Jvm.Cond.privateMethod ({ cls := "SortingLoopModel", name := "lagOf", desc := "(I)I" } : Jvm.MethodName)) ∈ lw_tbl := lw_at lw_m12 232 rfl
theorem q3010 : (Jvm.Cond.instanceMethod ({ cls := "SortingLoopModel", name := "lagOf", desc := "(I)I" } : Jvm.MethodName)) ∈ lw_all := lw_g (lw_at lw_m12 233 rfl) rfl
theorem q3011 : (Jvm.Cond.code ({ cls := "SortingLoopModel", name := "lagOf", desc := "(I)I" } : Jvm.MethodName) prog_19_method_17_code (2 : Nat) (Option.some Jvm.ClassFile.FieldType.int)) ∈ lw_all := lw_g (lw_at lw_m12 234 rfl) rfl
theorem q3012 : (Jvm.Cond.methodLink "SortingLoopModel" (75 : Nat) ({ cls := "SortingLoopModel", name := "stepsFrom", desc := "(II)I" } : Jvm.MethodName)) ∈ lw_all := lw_g (lw_at lw_m12 235 rfl) rfl
theorem q3013 : (Jvm.Cond.privateMethod ({ cls := "SortingLoopModel", name := "stepsFrom", desc := "(II)I" } : Jvm.MethodName)) ∈ lw_tbl := lw_at lw_m12 236 rfl
theorem q3014 : (Jvm.Cond.instanceMethod ({ cls := "SortingLoopModel", name := "stepsFrom", desc := "(II)I" } : Jvm.MethodName)) ∈ lw_all := lw_g (lw_at lw_m12 237 rfl) rfl
theorem q3015 : (Jvm.Cond.code ({ cls := "SortingLoopModel", name := "stepsFrom", desc := "(II)I" } : Jvm.MethodName) prog_19_method_16_code (3 : Nat) (Option.some Jvm.ClassFile.FieldType.int)) ∈ lw_all := lw_g (lw_at lw_m12 238 rfl) rfl
theorem q3016 : (Jvm.Cond.methodLink "SortingLoopModel" (70 : Nat) ({ cls := "java/lang/Math", name := "floorMod", desc := "(II)I" } : Jvm.MethodName)) ∈ lw_all := lw_g (lw_at lw_m12 239 rfl) rfl
theorem q3019 : (Jvm.Cond.methodLink "SortingLoopModel" (126 : Nat) ({ cls := "SortingLoopModel", name := "isLooked", desc := "(II)Z" } : Jvm.MethodName)) ∈ lw_all := lw_g (lw_at lw_m13 2 rfl) rfl
theorem q3020 : (Jvm.Cond.privateMethod ({ cls := "SortingLoopModel", name := "isLooked", desc := "(II)Z" } : Jvm.MethodName)) ∈ lw_tbl := lw_at lw_m13 3 rfl
theorem q3021 : (Jvm.Cond.instanceMethod ({ cls := "SortingLoopModel", name := "isLooked", desc := "(II)Z" } : Jvm.MethodName)) ∈ lw_all := lw_g (lw_at lw_m13 4 rfl) rfl
theorem q3022 : (Jvm.Cond.code ({ cls := "SortingLoopModel", name := "isLooked", desc := "(II)Z" } : Jvm.MethodName) prog_19_method_28_code (3 : Nat) (Option.some Jvm.ClassFile.FieldType.boolean)) ∈ lw_all := lw_g (lw_at lw_m13 5 rfl) rfl
theorem q3023 : (Jvm.Cond.methodLink "SortingLoopModel" (104 : Nat) ({ cls := "SortingLoopModel", name := "isTracked", desc := "(I)Z" } : Jvm.MethodName)) ∈ lw_all := lw_g (lw_at lw_m13 6 rfl) rfl
theorem q3024 : (Jvm.Cond.privateMethod ({ cls := "SortingLoopModel", name := "isTracked", desc := "(I)Z" } : Jvm.MethodName)) ∈ lw_tbl := lw_at lw_m13 7 rfl
theorem q3025 : (Jvm.Cond.instanceMethod ({ cls := "SortingLoopModel", name := "isTracked", desc := "(I)Z" } : Jvm.MethodName)) ∈ lw_all := lw_g (lw_at lw_m13 8 rfl) rfl
theorem q3026 : (Jvm.Cond.code ({ cls := "SortingLoopModel", name := "isTracked", desc := "(I)Z" } : Jvm.MethodName) prog_19_method_15_code (2 : Nat) (Option.some Jvm.ClassFile.FieldType.boolean)) ∈ lw_all := lw_g (lw_at lw_m13 9 rfl) rfl
theorem q3027 : (Jvm.Cond.methodLink "SortingLoopModel" (130 : Nat) ({ cls := "SortingLoopModel", name := "looks", desc := "(II)V" } : Jvm.MethodName)) ∈ lw_all := lw_g (lw_at lw_m13 10 rfl) rfl
theorem q3028 : (Jvm.Cond.privateMethod ({ cls := "SortingLoopModel", name := "looks", desc := "(II)V" } : Jvm.MethodName)) ∈ lw_tbl := lw_at lw_m13 11 rfl
theorem q3029 : (Jvm.Cond.instanceMethod ({ cls := "SortingLoopModel", name := "looks", desc := "(II)V" } : Jvm.MethodName)) ∈ lw_all := lw_g (lw_at lw_m13 12 rfl) rfl
theorem q3030 : (Jvm.Cond.code ({ cls := "SortingLoopModel", name := "looks", desc := "(II)V" } : Jvm.MethodName) prog_19_method_29_code (3 : Nat) (Option.none : Option Jvm.ClassFile.FieldType)) ∈ lw_all := lw_g (lw_at lw_m13 13 rfl) rfl
theorem q3031 : (Jvm.Cond.methodLink "SortingLoopModel" (107 : Nat) ({ cls := "SortingLoopModel", name := "isClosed", desc := "(I)Z" } : Jvm.MethodName)) ∈ lw_all := lw_g (lw_at lw_m13 14 rfl) rfl
theorem q3032 : (Jvm.Cond.privateMethod ({ cls := "SortingLoopModel", name := "isClosed", desc := "(I)Z" } : Jvm.MethodName)) ∈ lw_tbl := lw_at lw_m13 15 rfl
theorem q3033 : (Jvm.Cond.instanceMethod ({ cls := "SortingLoopModel", name := "isClosed", desc := "(I)Z" } : Jvm.MethodName)) ∈ lw_all := lw_g (lw_at lw_m13 16 rfl) rfl
theorem q3034 : (Jvm.Cond.code ({ cls := "SortingLoopModel", name := "isClosed", desc := "(I)Z" } : Jvm.MethodName) prog_19_method_22_code (2 : Nat) (Option.some Jvm.ClassFile.FieldType.boolean)) ∈ lw_all := lw_g (lw_at lw_m13 17 rfl) rfl
theorem q3035 : (Jvm.Cond.methodLink "SortingLoopModel" (110 : Nat) ({ cls := "SortingLoopModel", name := "fires", desc := "(II)V" } : Jvm.MethodName)) ∈ lw_all := lw_g (lw_at lw_m13 18 rfl) rfl
theorem q3036 : (Jvm.Cond.privateMethod ({ cls := "SortingLoopModel", name := "fires", desc := "(II)V" } : Jvm.MethodName)) ∈ lw_tbl := lw_at lw_m13 19 rfl
theorem q3037 : (Jvm.Cond.instanceMethod ({ cls := "SortingLoopModel", name := "fires", desc := "(II)V" } : Jvm.MethodName)) ∈ lw_all := lw_g (lw_at lw_m13 20 rfl) rfl
theorem q3038 : (Jvm.Cond.code ({ cls := "SortingLoopModel", name := "fires", desc := "(II)V" } : Jvm.MethodName) prog_19_method_27_code (4 : Nat) (Option.none : Option Jvm.ClassFile.FieldType)) ∈ lw_all := lw_g (lw_at lw_m13 21 rfl) rfl
theorem q3039 : (Jvm.Cond.methodLink "SortingLoopModel" (98 : Nat) ({ cls := "SortingLoopModel", name := "comesInto", desc := "(II)V" } : Jvm.MethodName)) ∈ lw_all := lw_g (lw_at lw_m13 22 rfl) rfl
theorem q3040 : (Jvm.Cond.privateMethod ({ cls := "SortingLoopModel", name := "comesInto", desc := "(II)V" } : Jvm.MethodName)) ∈ lw_tbl := lw_at lw_m13 23 rfl
theorem q3041 : (Jvm.Cond.instanceMethod ({ cls := "SortingLoopModel", name := "comesInto", desc := "(II)V" } : Jvm.MethodName)) ∈ lw_all := lw_g (lw_at lw_m13 24 rfl) rfl
theorem q3042 : (Jvm.Cond.code ({ cls := "SortingLoopModel", name := "comesInto", desc := "(II)V" } : Jvm.MethodName) prog_19_method_26_code (3 : Nat) (Option.none : Option Jvm.ClassFile.FieldType)) ∈ lw_all := lw_g (lw_at lw_m13 25 rfl) rfl
theorem q3043 : (Jvm.Cond.methodLink "SortingLoopModel" (290 : Nat) ({ cls := "SortingLoopModel", name := "barsSlip", desc := "(I)I" } : Jvm.MethodName)) ∈ lw_all := lw_g (lw_at lw_m13 26 rfl) rfl
theorem q3044 : (Jvm.Cond.privateMethod ({ cls := "SortingLoopModel", name := "barsSlip", desc := "(I)I" } : Jvm.MethodName)) ∈ lw_tbl := lw_at lw_m13 27 rfl
theorem q3045 : (Jvm.Cond.instanceMethod ({ cls := "SortingLoopModel", name := "barsSlip", desc := "(I)I" } : Jvm.MethodName)) ∈ lw_all := lw_g (lw_at lw_m13 28 rfl) rfl
theorem q3046 : (Jvm.Cond.code ({ cls := "SortingLoopModel", name := "barsSlip", desc := "(I)I" } : Jvm.MethodName) prog_19_method_33_code (2 : Nat) (Option.some Jvm.ClassFile.FieldType.int)) ∈ lw_all := lw_g (lw_at lw_m13 29 rfl) rfl
theorem q3047 : (Jvm.Cond.methodLink "SortingLoopModel" (293 : Nat) ({ cls := "SortingLoopModel", name := "slips", desc := "(I)I" } : Jvm.MethodName)) ∈ lw_all := lw_g (lw_at lw_m13 30 rfl) rfl
theorem q3048 : (Jvm.Cond.privateMethod ({ cls := "SortingLoopModel", name := "slips", desc := "(I)I" } : Jvm.MethodName)) ∈ lw_tbl := lw_at lw_m13 31 rfl
theorem q3049 : (Jvm.Cond.instanceMethod ({ cls := "SortingLoopModel", name := "slips", desc := "(I)I" } : Jvm.MethodName)) ∈ lw_all := lw_g (lw_at lw_m13 32 rfl) rfl
theorem q3050 : (Jvm.Cond.code ({ cls := "SortingLoopModel", name := "slips", desc := "(I)I" } : Jvm.MethodName) prog_19_method_35_code (2 : Nat) (Option.some Jvm.ClassFile.FieldType.int)) ∈ lw_all := lw_g (lw_at lw_m13 33 rfl) rfl
theorem q3051 : (Jvm.Cond.methodLink "SortingLoopModel" (296 : Nat) ({ cls := "SortingLoopModel", name := "empties", desc := "(I)I" } : Jvm.MethodName)) ∈ lw_all := lw_g (lw_at lw_m13 34 rfl) rfl
theorem q3052 : (Jvm.Cond.privateMethod ({ cls := "SortingLoopModel", name := "empties", desc := "(I)I" } : Jvm.MethodName)) ∈ lw_tbl := lw_at lw_m13 35 rfl
theorem q3053 : (Jvm.Cond.instanceMethod ({ cls := "SortingLoopModel", name := "empties", desc := "(I)I" } : Jvm.MethodName)) ∈ lw_all := lw_g (lw_at lw_m13 36 rfl) rfl
theorem q3054 : (Jvm.Cond.code ({ cls := "SortingLoopModel", name := "empties", desc := "(I)I" } : Jvm.MethodName) prog_19_method_36_code (4 : Nat) (Option.some Jvm.ClassFile.FieldType.int)) ∈ lw_all := lw_g (lw_at lw_m13 37 rfl) rfl
theorem q3055 : (Jvm.Cond.methodLink "SortingLoopModel" (299 : Nat) ({ cls := "SortingLoopModel", name := "opens", desc := "(II)I" } : Jvm.MethodName)) ∈ lw_all := lw_g (lw_at lw_m13 38 rfl) rfl
theorem q3056 : (Jvm.Cond.privateMethod ({ cls := "SortingLoopModel", name := "opens", desc := "(II)I" } : Jvm.MethodName)) ∈ lw_tbl := lw_at lw_m13 39 rfl
theorem q3057 : (Jvm.Cond.instanceMethod ({ cls := "SortingLoopModel", name := "opens", desc := "(II)I" } : Jvm.MethodName)) ∈ lw_all := lw_g (lw_at lw_m13 40 rfl) rfl
theorem q3058 : (Jvm.Cond.code ({ cls := "SortingLoopModel", name := "opens", desc := "(II)I" } : Jvm.MethodName) prog_19_method_37_code (4 : Nat) (Option.some Jvm.ClassFile.FieldType.int)) ∈ lw_all := lw_g (lw_at lw_m13 41 rfl) rfl
theorem q3059 : (Jvm.Cond.methodLink "SortingLoopModel" (302 : Nat) ({ cls := "SortingLoopModel", name := "sets", desc := "(II)I" } : Jvm.MethodName)) ∈ lw_all := lw_g (lw_at lw_m13 42 rfl) rfl
theorem q3060 : (Jvm.Cond.privateMethod ({ cls := "SortingLoopModel", name := "sets", desc := "(II)I" } : Jvm.MethodName)) ∈ lw_tbl := lw_at lw_m13 43 rfl
theorem q3061 : (Jvm.Cond.instanceMethod ({ cls := "SortingLoopModel", name := "sets", desc := "(II)I" } : Jvm.MethodName)) ∈ lw_all := lw_g (lw_at lw_m13 44 rfl) rfl
theorem q3062 : (Jvm.Cond.code ({ cls := "SortingLoopModel", name := "sets", desc := "(II)I" } : Jvm.MethodName) prog_19_method_38_code (5 : Nat) (Option.some Jvm.ClassFile.FieldType.int)) ∈ lw_all := lw_g (lw_at lw_m13 45 rfl) rfl
theorem q3064 : (Jvm.Cond.instanceMethod ({ cls := "SortingLoopModel", name := "errorCode", desc := "()I" } : Jvm.MethodName)) ∈ lw_all := lw_g (lw_at lw_m13 47 rfl) rfl
theorem q3065 : (Jvm.Cond.selects "SortingLoopModel" ({ cls := "SortingLoopModel", name := "errorCode", desc := "()I" } : Jvm.MethodName) ({ cls := "SortingLoopModel", name := "errorCode", desc := "()I" } : Jvm.MethodName)) ∈ lw_all := lw_g (lw_at lw_m13 48 rfl) rfl
theorem q3066 : (Jvm.Cond.code ({ cls := "SortingLoopModel", name := "errorCode", desc := "()I" } : Jvm.MethodName) prog_19_method_68_code (1 : Nat) (Option.some Jvm.ClassFile.FieldType.int)) ∈ lw_all := lw_g (lw_at lw_m13 49 rfl) rfl
theorem q3068 : (Jvm.Cond.instanceMethod ({ cls := "SortingLoopModel", name := "errorOffset", desc := "()I" } : Jvm.MethodName)) ∈ lw_all := lw_g (lw_at lw_m13 51 rfl) rfl
theorem q3069 : (Jvm.Cond.selects "SortingLoopModel" ({ cls := "SortingLoopModel", name := "errorOffset", desc := "()I" } : Jvm.MethodName) ({ cls := "SortingLoopModel", name := "errorOffset", desc := "()I" } : Jvm.MethodName)) ∈ lw_all := lw_g (lw_at lw_m13 52 rfl) rfl
theorem q3070 : (Jvm.Cond.code ({ cls := "SortingLoopModel", name := "errorOffset", desc := "()I" } : Jvm.MethodName) prog_19_method_69_code (1 : Nat) (Option.some Jvm.ClassFile.FieldType.int)) ∈ lw_all := lw_g (lw_at lw_m13 53 rfl) rfl
theorem q3072 : (Jvm.Cond.instanceMethod ({ cls := "SortingLoopModel", name := "count", desc := "(I)I" } : Jvm.MethodName)) ∈ lw_all := lw_g (lw_at lw_m13 55 rfl) rfl
theorem q3073 : (Jvm.Cond.selects "SortingLoopModel" ({ cls := "SortingLoopModel", name := "count", desc := "(I)I" } : Jvm.MethodName) ({ cls := "SortingLoopModel", name := "count", desc := "(I)I" } : Jvm.MethodName)) ∈ lw_all := lw_g (lw_at lw_m13 56 rfl) rfl
theorem q3074 : (Jvm.Cond.code ({ cls := "SortingLoopModel", name := "count", desc := "(I)I" } : Jvm.MethodName) prog_19_method_72_code (2 : Nat) (Option.some Jvm.ClassFile.FieldType.int)) ∈ lw_all := lw_g (lw_at lw_m13 57 rfl) rfl
theorem q3075 : (Jvm.Cond.methodLink "SortingLoopModel" (314 : Nat) ({ cls := "SortingLoopModel", name := "fails", desc := "(ZI)Z" } : Jvm.MethodName)) ∈ lw_all := lw_g (lw_at lw_m13 58 rfl) rfl
theorem q3076 : (Jvm.Cond.privateMethod ({ cls := "SortingLoopModel", name := "fails", desc := "(ZI)Z" } : Jvm.MethodName)) ∈ lw_tbl := lw_at lw_m13 59 rfl
theorem q3077 : (Jvm.Cond.instanceMethod ({ cls := "SortingLoopModel", name := "fails", desc := "(ZI)Z" } : Jvm.MethodName)) ∈ lw_all := lw_g (lw_at lw_m13 60 rfl) rfl
theorem q3078 : (Jvm.Cond.code ({ cls := "SortingLoopModel", name := "fails", desc := "(ZI)Z" } : Jvm.MethodName) prog_19_method_5_code (3 : Nat) (Option.some Jvm.ClassFile.FieldType.boolean)) ∈ lw_all := lw_g (lw_at lw_m13 61 rfl) rfl
theorem q3079 : (Jvm.Cond.methodLink "SortingLoopModel" (318 : Nat) ({ cls := "SortingLoopModel", name := "untracked", desc := "()I" } : Jvm.MethodName)) ∈ lw_all := lw_g (lw_at lw_m13 62 rfl) rfl
theorem q3080 : (Jvm.Cond.privateMethod ({ cls := "SortingLoopModel", name := "untracked", desc := "()I" } : Jvm.MethodName)) ∈ lw_tbl := lw_at lw_m13 63 rfl
theorem q3081 : (Jvm.Cond.instanceMethod ({ cls := "SortingLoopModel", name := "untracked", desc := "()I" } : Jvm.MethodName)) ∈ lw_all := lw_g (lw_at lw_m13 64 rfl) rfl
theorem q3082 : (Jvm.Cond.code ({ cls := "SortingLoopModel", name := "untracked", desc := "()I" } : Jvm.MethodName) prog_19_method_70_code (3 : Nat) (Option.some Jvm.ClassFile.FieldType.int)) ∈ lw_all := lw_g (lw_at lw_m13 65 rfl) rfl
theorem q3083 : (Jvm.Cond.methodLink "SortingLoopModel" (321 : Nat) ({ cls := "SortingLoopModel", name := "lagging", desc := "()I" } : Jvm.MethodName)) ∈ lw_all := lw_g (lw_at lw_m13 66 rfl) rfl
theorem q3084 : (Jvm.Cond.privateMethod ({ cls := "SortingLoopModel", name := "lagging", desc := "()I" } : Jvm.MethodName)) ∈ lw_tbl := lw_at lw_m13 67 rfl
theorem q3085 : (Jvm.Cond.instanceMethod ({ cls := "SortingLoopModel", name := "lagging", desc := "()I" } : Jvm.MethodName)) ∈ lw_all := lw_g (lw_at lw_m13 68 rfl) rfl
theorem q3086 : (Jvm.Cond.code ({ cls := "SortingLoopModel", name := "lagging", desc := "()I" } : Jvm.MethodName) prog_19_method_71_code (3 : Nat) (Option.some Jvm.ClassFile.FieldType.int)) ∈ lw_all := lw_g (lw_at lw_m13 69 rfl) rfl
theorem q3088 : (Jvm.Cond.instanceMethod ({ cls := "SortingLoopModel", name := "account", desc := "(I)I" } : Jvm.MethodName)) ∈ lw_all := lw_g (lw_at lw_m13 71 rfl) rfl
theorem q3089 : (Jvm.Cond.selects "SortingLoopModel" ({ cls := "SortingLoopModel", name := "account", desc := "(I)I" } : Jvm.MethodName) ({ cls := "SortingLoopModel", name := "account", desc := "(I)I" } : Jvm.MethodName)) ∈ lw_all := lw_g (lw_at lw_m13 72 rfl) rfl
theorem q3090 : (Jvm.Cond.code ({ cls := "SortingLoopModel", name := "account", desc := "(I)I" } : Jvm.MethodName) prog_19_method_73_code (2 : Nat) (Option.some Jvm.ClassFile.FieldType.int)) ∈ lw_all := lw_g (lw_at lw_m13 73 rfl) rfl
theorem q3092 : (Jvm.Cond.instanceMethod ({ cls := "SortingLoopModel", name := "cell", desc := "(II)I" } : Jvm.MethodName)) ∈ lw_all := lw_g (lw_at lw_m13 75 rfl) rfl
theorem q3093 : (Jvm.Cond.selects "SortingLoopModel" ({ cls := "SortingLoopModel", name := "cell", desc := "(II)I" } : Jvm.MethodName) ({ cls := "SortingLoopModel", name := "cell", desc := "(II)I" } : Jvm.MethodName)) ∈ lw_all := lw_g (lw_at lw_m13 76 rfl) rfl
theorem q3094 : (Jvm.Cond.code ({ cls := "SortingLoopModel", name := "cell", desc := "(II)I" } : Jvm.MethodName) prog_19_method_79_code (3 : Nat) (Option.some Jvm.ClassFile.FieldType.int)) ∈ lw_all := lw_g (lw_at lw_m13 77 rfl) rfl
theorem q3095 : (Jvm.Cond.methodLink "SortingLoopModel" (324 : Nat) ({ cls := "SortingLoopModel", name := "noCell", desc := "(I)Z" } : Jvm.MethodName)) ∈ lw_all := lw_g (lw_at lw_m13 78 rfl) rfl
theorem q3096 : (Jvm.Cond.privateMethod ({ cls := "SortingLoopModel", name := "noCell", desc := "(I)Z" } : Jvm.MethodName)) ∈ lw_tbl := lw_at lw_m13 79 rfl
theorem q3097 : (Jvm.Cond.instanceMethod ({ cls := "SortingLoopModel", name := "noCell", desc := "(I)Z" } : Jvm.MethodName)) ∈ lw_all := lw_g (lw_at lw_m13 80 rfl) rfl
theorem q3098 : (Jvm.Cond.code ({ cls := "SortingLoopModel", name := "noCell", desc := "(I)Z" } : Jvm.MethodName) prog_19_method_74_code (2 : Nat) (Option.some Jvm.ClassFile.FieldType.boolean)) ∈ lw_all := lw_g (lw_at lw_m13 81 rfl) rfl
theorem q3099 : (Jvm.Cond.methodLink "SortingLoopModel" (327 : Nat) ({ cls := "SortingLoopModel", name := "tracksAt", desc := "(I)I" } : Jvm.MethodName)) ∈ lw_all := lw_g (lw_at lw_m13 82 rfl) rfl
theorem q3100 : (Jvm.Cond.privateMethod ({ cls := "SortingLoopModel", name := "tracksAt", desc := "(I)I" } : Jvm.MethodName)) ∈ lw_tbl := lw_at lw_m13 83 rfl
theorem q3101 : (Jvm.Cond.instanceMethod ({ cls := "SortingLoopModel", name := "tracksAt", desc := "(I)I" } : Jvm.MethodName)) ∈ lw_all := lw_g (lw_at lw_m13 84 rfl) rfl
theorem q3102 : (Jvm.Cond.code ({ cls := "SortingLoopModel", name := "tracksAt", desc := "(I)I" } : Jvm.MethodName) prog_19_method_78_code (4 : Nat) (Option.some Jvm.ClassFile.FieldType.int)) ∈ lw_all := lw_g (lw_at lw_m13 85 rfl) rfl
theorem q3104 : (Jvm.Cond.instanceMethod ({ cls := "SortingLoopModel", name := "parcel", desc := "(II)I" } : Jvm.MethodName)) ∈ lw_all := lw_g (lw_at lw_m13 87 rfl) rfl
theorem q3105 : (Jvm.Cond.selects "SortingLoopModel" ({ cls := "SortingLoopModel", name := "parcel", desc := "(II)I" } : Jvm.MethodName) ({ cls := "SortingLoopModel", name := "parcel", desc := "(II)I" } : Jvm.MethodName)) ∈ lw_all := lw_g (lw_at lw_m13 88 rfl) rfl
theorem q3106 : (Jvm.Cond.code ({ cls := "SortingLoopModel", name := "parcel", desc := "(II)I" } : Jvm.MethodName) prog_19_method_80_code (3 : Nat) (Option.some Jvm.ClassFile.FieldType.int)) ∈ lw_all := lw_g (lw_at lw_m13 89 rfl) rfl
theorem q3107 : (Jvm.Cond.methodLink "SortingLoopModel" (330 : Nat) ({ cls := "SortingLoopModel", name := "noParcel", desc := "(I)Z" } : Jvm.MethodName)) ∈ lw_all := lw_g (lw_at lw_m13 90 rfl) rfl
theorem q3108 : (Jvm.Cond.privateMethod ({ cls := "SortingLoopModel", name := "noParcel", desc := "(I)Z" } : Jvm.MethodName)) ∈ lw_tbl := lw_at lw_m13 91 rfl
theorem q3109 : (Jvm.Cond.instanceMethod ({ cls := "SortingLoopModel", name := "noParcel", desc := "(I)Z" } : Jvm.MethodName)) ∈ lw_all := lw_g (lw_at lw_m13 92 rfl) rfl
theorem q3110 : (Jvm.Cond.code ({ cls := "SortingLoopModel", name := "noParcel", desc := "(I)Z" } : Jvm.MethodName) prog_19_method_75_code (2 : Nat) (Option.some Jvm.ClassFile.FieldType.boolean)) ∈ lw_all := lw_g (lw_at lw_m13 93 rfl) rfl
theorem q3112 : (Jvm.Cond.instanceMethod ({ cls := "SortingLoopModel", name := "chute", desc := "(II)I" } : Jvm.MethodName)) ∈ lw_all := lw_g (lw_at lw_m13 95 rfl) rfl
theorem q3113 : (Jvm.Cond.selects "SortingLoopModel" ({ cls := "SortingLoopModel", name := "chute", desc := "(II)I" } : Jvm.MethodName) ({ cls := "SortingLoopModel", name := "chute", desc := "(II)I" } : Jvm.MethodName)) ∈ lw_all := lw_g (lw_at lw_m13 96 rfl) rfl
theorem q3114 : (Jvm.Cond.code ({ cls := "SortingLoopModel", name := "chute", desc := "(II)I" } : Jvm.MethodName) prog_19_method_83_code (3 : Nat) (Option.some Jvm.ClassFile.FieldType.int)) ∈ lw_all := lw_g (lw_at lw_m13 97 rfl) rfl
theorem q3115 : (Jvm.Cond.methodLink "SortingLoopModel" (333 : Nat) ({ cls := "SortingLoopModel", name := "noChute", desc := "(I)Z" } : Jvm.MethodName)) ∈ lw_all := lw_g (lw_at lw_m13 98 rfl) rfl
theorem q3116 : (Jvm.Cond.privateMethod ({ cls := "SortingLoopModel", name := "noChute", desc := "(I)Z" } : Jvm.MethodName)) ∈ lw_tbl := lw_at lw_m13 99 rfl
theorem q3117 : (Jvm.Cond.instanceMethod ({ cls := "SortingLoopModel", name := "noChute", desc := "(I)Z" } : Jvm.MethodName)) ∈ lw_all := lw_g (lw_at lw_m13 100 rfl) rfl
theorem q3118 : (Jvm.Cond.code ({ cls := "SortingLoopModel", name := "noChute", desc := "(I)Z" } : Jvm.MethodName) prog_19_method_76_code (2 : Nat) (Option.some Jvm.ClassFile.FieldType.boolean)) ∈ lw_all := lw_g (lw_at lw_m13 101 rfl) rfl
theorem q3119 : (Jvm.Cond.methodLink "SortingLoopModel" (336 : Nat) ({ cls := "SortingLoopModel", name := "rightIn", desc := "(I)I" } : Jvm.MethodName)) ∈ lw_all := lw_g (lw_at lw_m13 102 rfl) rfl
theorem q3120 : (Jvm.Cond.privateMethod ({ cls := "SortingLoopModel", name := "rightIn", desc := "(I)I" } : Jvm.MethodName)) ∈ lw_tbl := lw_at lw_m13 103 rfl
theorem q3121 : (Jvm.Cond.instanceMethod ({ cls := "SortingLoopModel", name := "rightIn", desc := "(I)I" } : Jvm.MethodName)) ∈ lw_all := lw_g (lw_at lw_m13 104 rfl) rfl
theorem q3122 : (Jvm.Cond.code ({ cls := "SortingLoopModel", name := "rightIn", desc := "(I)I" } : Jvm.MethodName) prog_19_method_81_code (4 : Nat) (Option.some Jvm.ClassFile.FieldType.int)) ∈ lw_all := lw_g (lw_at lw_m13 105 rfl) rfl
theorem q3123 : (Jvm.Cond.methodLink "SortingLoopModel" (339 : Nat) ({ cls := "SortingLoopModel", name := "onFor", desc := "(I)I" } : Jvm.MethodName)) ∈ lw_all := lw_g (lw_at lw_m13 106 rfl) rfl
theorem q3124 : (Jvm.Cond.privateMethod ({ cls := "SortingLoopModel", name := "onFor", desc := "(I)I" } : Jvm.MethodName)) ∈ lw_tbl := lw_at lw_m13 107 rfl
theorem q3125 : (Jvm.Cond.instanceMethod ({ cls := "SortingLoopModel", name := "onFor", desc := "(I)I" } : Jvm.MethodName)) ∈ lw_all := lw_g (lw_at lw_m13 108 rfl) rfl
theorem q3126 : (Jvm.Cond.code ({ cls := "SortingLoopModel", name := "onFor", desc := "(I)I" } : Jvm.MethodName) prog_19_method_82_code (4 : Nat) (Option.some Jvm.ClassFile.FieldType.int)) ∈ lw_all := lw_g (lw_at lw_m13 109 rfl) rfl
theorem q3128 : (Jvm.Cond.instanceMethod ({ cls := "SortingLoopModel", name := "held", desc := "(II)I" } : Jvm.MethodName)) ∈ lw_all := lw_g (lw_at lw_m13 111 rfl) rfl
theorem q3129 : (Jvm.Cond.selects "SortingLoopModel" ({ cls := "SortingLoopModel", name := "held", desc := "(II)I" } : Jvm.MethodName) ({ cls := "SortingLoopModel", name := "held", desc := "(II)I" } : Jvm.MethodName)) ∈ lw_all := lw_g (lw_at lw_m13 112 rfl) rfl
theorem q3130 : (Jvm.Cond.code ({ cls := "SortingLoopModel", name := "held", desc := "(II)I" } : Jvm.MethodName) prog_19_method_84_code (3 : Nat) (Option.some Jvm.ClassFile.FieldType.int)) ∈ lw_all := lw_g (lw_at lw_m13 113 rfl) rfl
theorem q3132 : (Jvm.Cond.instanceMethod ({ cls := "SortingLoopModel", name := "steps", desc := "(II)I" } : Jvm.MethodName)) ∈ lw_all := lw_g (lw_at lw_m13 115 rfl) rfl
theorem q3133 : (Jvm.Cond.selects "SortingLoopModel" ({ cls := "SortingLoopModel", name := "steps", desc := "(II)I" } : Jvm.MethodName) ({ cls := "SortingLoopModel", name := "steps", desc := "(II)I" } : Jvm.MethodName)) ∈ lw_all := lw_g (lw_at lw_m13 116 rfl) rfl
theorem q3134 : (Jvm.Cond.code ({ cls := "SortingLoopModel", name := "steps", desc := "(II)I" } : Jvm.MethodName) prog_19_method_85_code (3 : Nat) (Option.some Jvm.ClassFile.FieldType.int)) ∈ lw_all := lw_g (lw_at lw_m13 117 rfl) rfl
theorem q3136 : (Jvm.Cond.instanceMethod ({ cls := "SortingLoopModel", name := "toScanner", desc := "(I)I" } : Jvm.MethodName)) ∈ lw_all := lw_g (lw_at lw_m13 119 rfl) rfl
theorem q3137 : (Jvm.Cond.selects "SortingLoopModel" ({ cls := "SortingLoopModel", name := "toScanner", desc := "(I)I" } : Jvm.MethodName) ({ cls := "SortingLoopModel", name := "toScanner", desc := "(I)I" } : Jvm.MethodName)) ∈ lw_all := lw_g (lw_at lw_m13 120 rfl) rfl
theorem q3138 : (Jvm.Cond.code ({ cls := "SortingLoopModel", name := "toScanner", desc := "(I)I" } : Jvm.MethodName) prog_19_method_89_code (2 : Nat) (Option.some Jvm.ClassFile.FieldType.int)) ∈ lw_all := lw_g (lw_at lw_m13 121 rfl) rfl
theorem q3139 : (Jvm.Cond.methodLink "SortingLoopModel" (348 : Nat) ({ cls := "SortingLoopModel", name := "scannerIn", desc := "(I)I" } : Jvm.MethodName)) ∈ lw_all := lw_g (lw_at lw_m13 122 rfl) rfl
theorem q3140 : (Jvm.Cond.privateMethod ({ cls := "SortingLoopModel", name := "scannerIn", desc := "(I)I" } : Jvm.MethodName)) ∈ lw_tbl := lw_at lw_m13 123 rfl
theorem q3141 : (Jvm.Cond.instanceMethod ({ cls := "SortingLoopModel", name := "scannerIn", desc := "(I)I" } : Jvm.MethodName)) ∈ lw_all := lw_g (lw_at lw_m13 124 rfl) rfl
theorem q3142 : (Jvm.Cond.code ({ cls := "SortingLoopModel", name := "scannerIn", desc := "(I)I" } : Jvm.MethodName) prog_19_method_87_code (5 : Nat) (Option.some Jvm.ClassFile.FieldType.int)) ∈ lw_all := lw_g (lw_at lw_m13 125 rfl) rfl
theorem q3143 : (Jvm.Cond.methodLink "SortingLoopModel" (342 : Nat) ({ cls := "SortingLoopModel", name := "ahead", desc := "(II)I" } : Jvm.MethodName)) ∈ lw_all := lw_g (lw_at lw_m13 126 rfl) rfl
theorem q3144 : (Jvm.Cond.privateMethod ({ cls := "SortingLoopModel", name := "ahead", desc := "(II)I" } : Jvm.MethodName)) ∈ lw_tbl := lw_at lw_m13 127 rfl
theorem q3145 : (Jvm.Cond.instanceMethod ({ cls := "SortingLoopModel", name := "ahead", desc := "(II)I" } : Jvm.MethodName)) ∈ lw_all := lw_g (lw_at lw_m13 128 rfl) rfl
theorem q3146 : (Jvm.Cond.code ({ cls := "SortingLoopModel", name := "ahead", desc := "(II)I" } : Jvm.MethodName) prog_19_method_86_code (4 : Nat) (Option.some Jvm.ClassFile.FieldType.int)) ∈ lw_all := lw_g (lw_at lw_m13 129 rfl) rfl
theorem q3147 : (Jvm.Cond.methodLink "SortingLoopModel" (345 : Nat) ({ cls := "java/lang/Math", name := "min", desc := "(II)I" } : Jvm.MethodName)) ∈ lw_all := lw_g (lw_at lw_m13 130 rfl) rfl
theorem q3149 : (Jvm.Cond.instanceMethod ({ cls := "SortingLoopModel", name := "toChute", desc := "(I)I" } : Jvm.MethodName)) ∈ lw_all := lw_g (lw_at lw_m13 132 rfl) rfl
theorem q3150 : (Jvm.Cond.selects "SortingLoopModel" ({ cls := "SortingLoopModel", name := "toChute", desc := "(I)I" } : Jvm.MethodName) ({ cls := "SortingLoopModel", name := "toChute", desc := "(I)I" } : Jvm.MethodName)) ∈ lw_all := lw_g (lw_at lw_m13 133 rfl) rfl
theorem q3151 : (Jvm.Cond.code ({ cls := "SortingLoopModel", name := "toChute", desc := "(I)I" } : Jvm.MethodName) prog_19_method_90_code (2 : Nat) (Option.some Jvm.ClassFile.FieldType.int)) ∈ lw_all := lw_g (lw_at lw_m13 134 rfl) rfl
theorem q3152 : (Jvm.Cond.methodLink "SortingLoopModel" (351 : Nat) ({ cls := "SortingLoopModel", name := "chuteIn", desc := "(I)I" } : Jvm.MethodName)) ∈ lw_all := lw_g (lw_at lw_m13 135 rfl) rfl
theorem q3153 : (Jvm.Cond.privateMethod ({ cls := "SortingLoopModel", name := "chuteIn", desc := "(I)I" } : Jvm.MethodName)) ∈ lw_tbl := lw_at lw_m13 136 rfl
theorem q3154 : (Jvm.Cond.instanceMethod ({ cls := "SortingLoopModel", name := "chuteIn", desc := "(I)I" } : Jvm.MethodName)) ∈ lw_all := lw_g (lw_at lw_m13 137 rfl) rfl
theorem q3155 : (Jvm.Cond.code ({ cls := "SortingLoopModel", name := "chuteIn", desc := "(I)I" } : Jvm.MethodName) prog_19_method_88_code (2 : Nat) (Option.some Jvm.ClassFile.FieldType.int)) ∈ lw_all := lw_g (lw_at lw_m13 138 rfl) rfl
theorem q3157 : (Jvm.Cond.instanceMethod ({ cls := "SortingLoopModel", name := "why", desc := "(II)I" } : Jvm.MethodName)) ∈ lw_all := lw_g (lw_at lw_m13 140 rfl) rfl
theorem q3158 : (Jvm.Cond.selects "SortingLoopModel" ({ cls := "SortingLoopModel", name := "why", desc := "(II)I" } : Jvm.MethodName) ({ cls := "SortingLoopModel", name := "why", desc := "(II)I" } : Jvm.MethodName)) ∈ lw_all := lw_g (lw_at lw_m13 141 rfl) rfl
theorem q3159 : (Jvm.Cond.code ({ cls := "SortingLoopModel", name := "why", desc := "(II)I" } : Jvm.MethodName) prog_19_method_94_code (3 : Nat) (Option.some Jvm.ClassFile.FieldType.int)) ∈ lw_all := lw_g (lw_at lw_m13 142 rfl) rfl
theorem q3160 : (Jvm.Cond.methodLink "SortingLoopModel" (354 : Nat) ({ cls := "SortingLoopModel", name := "reasonOf", desc := "(I)I" } : Jvm.MethodName)) ∈ lw_all := lw_g (lw_at lw_m13 143 rfl) rfl
theorem q3161 : (Jvm.Cond.privateMethod ({ cls := "SortingLoopModel", name := "reasonOf", desc := "(I)I" } : Jvm.MethodName)) ∈ lw_tbl := lw_at lw_m13 144 rfl
theorem q3162 : (Jvm.Cond.instanceMethod ({ cls := "SortingLoopModel", name := "reasonOf", desc := "(I)I" } : Jvm.MethodName)) ∈ lw_all := lw_g (lw_at lw_m13 145 rfl) rfl
theorem q3163 : (Jvm.Cond.code ({ cls := "SortingLoopModel", name := "reasonOf", desc := "(I)I" } : Jvm.MethodName) prog_19_method_91_code (3 : Nat) (Option.some Jvm.ClassFile.FieldType.int)) ∈ lw_all := lw_g (lw_at lw_m13 146 rfl) rfl
theorem q3164 : (Jvm.Cond.methodLink "SortingLoopModel" (357 : Nat) ({ cls := "SortingLoopModel", name := "causeOf", desc := "(I)I" } : Jvm.MethodName)) ∈ lw_all := lw_g (lw_at lw_m13 147 rfl) rfl
theorem q3165 : (Jvm.Cond.privateMethod ({ cls := "SortingLoopModel", name := "causeOf", desc := "(I)I" } : Jvm.MethodName)) ∈ lw_tbl := lw_at lw_m13 148 rfl
theorem q3166 : (Jvm.Cond.instanceMethod ({ cls := "SortingLoopModel", name := "causeOf", desc := "(I)I" } : Jvm.MethodName)) ∈ lw_all := lw_g (lw_at lw_m13 149 rfl) rfl
theorem q3167 : (Jvm.Cond.code ({ cls := "SortingLoopModel", name := "causeOf", desc := "(I)I" } : Jvm.MethodName) prog_19_method_92_code (2 : Nat) (Option.some Jvm.ClassFile.FieldType.int)) ∈ lw_all := lw_g (lw_at lw_m13 150 rfl) rfl
theorem q3168 : (Jvm.Cond.methodLink "SortingLoopModel" (360 : Nat) ({ cls := "SortingLoopModel", name := "deeperOf", desc := "(I)I" } : Jvm.MethodName)) ∈ lw_all := lw_g (lw_at lw_m13 151 rfl) rfl
theorem q3169 : (Jvm.Cond.privateMethod ({ cls := "SortingLoopModel", name := "deeperOf", desc := "(I)I" } : Jvm.MethodName)) ∈ lw_tbl := lw_at lw_m13 152 rfl
theorem q3170 : (Jvm.Cond.instanceMethod ({ cls := "SortingLoopModel", name := "deeperOf", desc := "(I)I" } : Jvm.MethodName)) ∈ lw_all := lw_g (lw_at lw_m13 153 rfl) rfl
theorem q3171 : (Jvm.Cond.code ({ cls := "SortingLoopModel", name := "deeperOf", desc := "(I)I" } : Jvm.MethodName) prog_19_method_93_code (3 : Nat) (Option.some Jvm.ClassFile.FieldType.int)) ∈ lw_all := lw_g (lw_at lw_m13 154 rfl) rfl
theorem q3173 : (Jvm.Cond.instanceMethod ({ cls := "SortingLoopModel", name := "whyNoPut", desc := "()I" } : Jvm.MethodName)) ∈ lw_all := lw_g (lw_at lw_m13 156 rfl) rfl
theorem q3174 : (Jvm.Cond.selects "SortingLoopModel" ({ cls := "SortingLoopModel", name := "whyNoPut", desc := "()I" } : Jvm.MethodName) ({ cls := "SortingLoopModel", name := "whyNoPut", desc := "()I" } : Jvm.MethodName)) ∈ lw_all := lw_g (lw_at lw_m13 157 rfl) rfl
theorem q3175 : (Jvm.Cond.code ({ cls := "SortingLoopModel", name := "whyNoPut", desc := "()I" } : Jvm.MethodName) prog_19_method_95_code (1 : Nat) (Option.some Jvm.ClassFile.FieldType.int)) ∈ lw_all := lw_g (lw_at lw_m13 158 rfl) rfl
theorem q3177 : (Jvm.Cond.instanceMethod ({ cls := "SortingLoopModel", name := "whyNoSlip", desc := "(I)I" } : Jvm.MethodName)) ∈ lw_all := lw_g (lw_at lw_m13 160 rfl) rfl
theorem q3178 : (Jvm.Cond.selects "SortingLoopModel" ({ cls := "SortingLoopModel", name := "whyNoSlip", desc := "(I)I" } : Jvm.MethodName) ({ cls := "SortingLoopModel", name := "whyNoSlip", desc := "(I)I" } : Jvm.MethodName)) ∈ lw_all := lw_g (lw_at lw_m13 161 rfl) rfl
theorem q3179 : (Jvm.Cond.code ({ cls := "SortingLoopModel", name := "whyNoSlip", desc := "(I)I" } : Jvm.MethodName) prog_19_method_96_code (2 : Nat) (Option.some Jvm.ClassFile.FieldType.int)) ∈ lw_all := lw_g (lw_at lw_m13 162 rfl) rfl
theorem q3181 : (Jvm.Cond.instanceMethod ({ cls := "SortingLoopModel", name := "leavesIn", desc := "(I)I" } : Jvm.MethodName)) ∈ lw_all := lw_g (lw_at lw_m13 164 rfl) rfl
theorem q3182 : (Jvm.Cond.selects "SortingLoopModel" ({ cls := "SortingLoopModel", name := "leavesIn", desc := "(I)I" } : Jvm.MethodName) ({ cls := "SortingLoopModel", name := "leavesIn", desc := "(I)I" } : Jvm.MethodName)) ∈ lw_all := lw_g (lw_at lw_m13 165 rfl) rfl
theorem q3183 : (Jvm.Cond.code ({ cls := "SortingLoopModel", name := "leavesIn", desc := "(I)I" } : Jvm.MethodName) prog_19_method_97_code (3 : Nat) (Option.some Jvm.ClassFile.FieldType.int)) ∈ lw_all := lw_g (lw_at lw_m13 166 rfl) rfl
theorem q3184 : (Jvm.Cond.methodLink "SortingLoopModel" (363 : Nat) ({ cls := "SortingLoopModel", name := "goesAside", desc := "()V" } : Jvm.MethodName)) ∈ lw_all := lw_g (lw_at lw_m13 167 rfl) rfl
theorem q3185 : (Jvm.Cond.privateMethod ({ cls := "SortingLoopModel", name := "goesAside", desc := "()V" } : Jvm.MethodName)) ∈ lw_tbl := lw_at lw_m13 168 rfl
theorem q3186 : (Jvm.Cond.instanceMethod ({ cls := "SortingLoopModel", name := "goesAside", desc := "()V" } : Jvm.MethodName)) ∈ lw_all := lw_g (lw_at lw_m13 169 rfl) rfl
theorem q3187 : (Jvm.Cond.code ({ cls := "SortingLoopModel", name := "goesAside", desc := "()V" } : Jvm.MethodName) prog_19_method_40_code (1 : Nat) (Option.none : Option Jvm.ClassFile.FieldType)) ∈ lw_all := lw_g (lw_at lw_m13 170 rfl) rfl
theorem q3188 : (Jvm.Cond.methodLink "SortingLoopModel" (366 : Nat) ({ cls := "SortingLoopModel", name := "goesBack", desc := "(I)I" } : Jvm.MethodName)) ∈ lw_all := lw_g (lw_at lw_m13 171 rfl) rfl
theorem q3189 : (Jvm.Cond.privateMethod ({ cls := "SortingLoopModel", name := "goesBack", desc := "(I)I" } : Jvm.MethodName)) ∈ lw_tbl := lw_at lw_m13 172 rfl
theorem q3190 : (Jvm.Cond.instanceMethod ({ cls := "SortingLoopModel", name := "goesBack", desc := "(I)I" } : Jvm.MethodName)) ∈ lw_all := lw_g (lw_at lw_m13 173 rfl) rfl
theorem q3191 : (Jvm.Cond.code ({ cls := "SortingLoopModel", name := "goesBack", desc := "(I)I" } : Jvm.MethodName) prog_19_method_41_code (2 : Nat) (Option.some Jvm.ClassFile.FieldType.int)) ∈ lw_all := lw_g (lw_at lw_m13 174 rfl) rfl
theorem q3193 : (Jvm.Cond.instanceMethod ({ cls := "SortingLoopModel", name := "endsAs", desc := "(II)I" } : Jvm.MethodName)) ∈ lw_all := lw_g (lw_at lw_m13 176 rfl) rfl
theorem q3194 : (Jvm.Cond.selects "SortingLoopModel" ({ cls := "SortingLoopModel", name := "endsAs", desc := "(II)I" } : Jvm.MethodName) ({ cls := "SortingLoopModel", name := "endsAs", desc := "(II)I" } : Jvm.MethodName)) ∈ lw_all := lw_g (lw_at lw_m13 177 rfl) rfl
theorem q3195 : (Jvm.Cond.code ({ cls := "SortingLoopModel", name := "endsAs", desc := "(II)I" } : Jvm.MethodName) prog_19_method_99_code (4 : Nat) (Option.some Jvm.ClassFile.FieldType.int)) ∈ lw_all := lw_g (lw_at lw_m13 178 rfl) rfl
theorem q3196 : (Jvm.Cond.methodLink "SortingLoopModel" (369 : Nat) ({ cls := "SortingLoopModel", name := "noTicks", desc := "(II)Z" } : Jvm.MethodName)) ∈ lw_all := lw_g (lw_at lw_m13 179 rfl) rfl
theorem q3197 : (Jvm.Cond.privateMethod ({ cls := "SortingLoopModel", name := "noTicks", desc := "(II)Z" } : Jvm.MethodName)) ∈ lw_tbl := lw_at lw_m13 180 rfl
theorem q3198 : (Jvm.Cond.instanceMethod ({ cls := "SortingLoopModel", name := "noTicks", desc := "(II)Z" } : Jvm.MethodName)) ∈ lw_all := lw_g (lw_at lw_m13 181 rfl) rfl
theorem q3199 : (Jvm.Cond.code ({ cls := "SortingLoopModel", name := "noTicks", desc := "(II)Z" } : Jvm.MethodName) prog_19_method_77_code (3 : Nat) (Option.some Jvm.ClassFile.FieldType.boolean)) ∈ lw_all := lw_g (lw_at lw_m13 182 rfl) rfl
theorem q3200 : (Jvm.Cond.methodLink "SortingLoopModel" (372 : Nat) ({ cls := "SortingLoopModel", name := "endOf", desc := "(I)I" } : Jvm.MethodName)) ∈ lw_all := lw_g (lw_at lw_m13 183 rfl) rfl
theorem q3201 : (Jvm.Cond.privateMethod ({ cls := "SortingLoopModel", name := "endOf", desc := "(I)I" } : Jvm.MethodName)) ∈ lw_tbl := lw_at lw_m13 184 rfl
theorem q3202 : (Jvm.Cond.instanceMethod ({ cls := "SortingLoopModel", name := "endOf", desc := "(I)I" } : Jvm.MethodName)) ∈ lw_all := lw_g (lw_at lw_m13 185 rfl) rfl
theorem q3203 : (Jvm.Cond.code ({ cls := "SortingLoopModel", name := "endOf", desc := "(I)I" } : Jvm.MethodName) prog_19_method_98_code (3 : Nat) (Option.some Jvm.ClassFile.FieldType.int)) ∈ lw_all := lw_g (lw_at lw_m13 186 rfl) rfl
theorem q3205 : (Jvm.Cond.instanceMethod ({ cls := "SortingLoopModel", name := "heldIn", desc := "(II)I" } : Jvm.MethodName)) ∈ lw_all := lw_g (lw_at lw_m13 188 rfl) rfl
theorem q3206 : (Jvm.Cond.selects "SortingLoopModel" ({ cls := "SortingLoopModel", name := "heldIn", desc := "(II)I" } : Jvm.MethodName) ({ cls := "SortingLoopModel", name := "heldIn", desc := "(II)I" } : Jvm.MethodName)) ∈ lw_all := lw_g (lw_at lw_m13 189 rfl) rfl
theorem q3207 : (Jvm.Cond.code ({ cls := "SortingLoopModel", name := "heldIn", desc := "(II)I" } : Jvm.MethodName) prog_19_method_100_code (4 : Nat) (Option.some Jvm.ClassFile.FieldType.int)) ∈ lw_all := lw_g (lw_at lw_m13 190 rfl) rfl
theorem q3209 : (Jvm.Cond.instanceMethod ({ cls := "SortingLoopModel", name := "growsIn", desc := "(II)I" } : Jvm.MethodName)) ∈ lw_all := lw_g (lw_at lw_m13 192 rfl) rfl
theorem q3210 : (Jvm.Cond.selects "SortingLoopModel" ({ cls := "SortingLoopModel", name := "growsIn", desc := "(II)I" } : Jvm.MethodName) ({ cls := "SortingLoopModel", name := "growsIn", desc := "(II)I" } : Jvm.MethodName)) ∈ lw_all := lw_g (lw_at lw_m13 193 rfl) rfl
theorem q3211 : (Jvm.Cond.code ({ cls := "SortingLoopModel", name := "growsIn", desc := "(II)I" } : Jvm.MethodName) prog_19_method_102_code (3 : Nat) (Option.some Jvm.ClassFile.FieldType.int)) ∈ lw_all := lw_g (lw_at lw_m13 194 rfl) rfl
theorem q3212 : (Jvm.Cond.methodLink "SortingLoopModel" (375 : Nat) ({ cls := "SortingLoopModel", name := "grows", desc := "(II)I" } : Jvm.MethodName)) ∈ lw_all := lw_g (lw_at lw_m13 195 rfl) rfl
theorem q3213 : (Jvm.Cond.privateMethod ({ cls := "SortingLoopModel", name := "grows", desc := "(II)I" } : Jvm.MethodName)) ∈ lw_tbl := lw_at lw_m13 196 rfl
theorem q3214 : (Jvm.Cond.instanceMethod ({ cls := "SortingLoopModel", name := "grows", desc := "(II)I" } : Jvm.MethodName)) ∈ lw_all := lw_g (lw_at lw_m13 197 rfl) rfl
theorem q3215 : (Jvm.Cond.code ({ cls := "SortingLoopModel", name := "grows", desc := "(II)I" } : Jvm.MethodName) prog_19_method_101_code (5 : Nat) (Option.some Jvm.ClassFile.FieldType.int)) ∈ lw_all := lw_g (lw_at lw_m13 198 rfl) rfl
theorem q3217 : (Jvm.Cond.instanceMethod ({ cls := "SortingLoopModel", name := "gainOf", desc := "(II)I" } : Jvm.MethodName)) ∈ lw_all := lw_g (lw_at lw_m13 200 rfl) rfl
theorem q3218 : (Jvm.Cond.selects "SortingLoopModel" ({ cls := "SortingLoopModel", name := "gainOf", desc := "(II)I" } : Jvm.MethodName) ({ cls := "SortingLoopModel", name := "gainOf", desc := "(II)I" } : Jvm.MethodName)) ∈ lw_all := lw_g (lw_at lw_m13 201 rfl) rfl
theorem q3219 : (Jvm.Cond.code ({ cls := "SortingLoopModel", name := "gainOf", desc := "(II)I" } : Jvm.MethodName) prog_19_method_104_code (3 : Nat) (Option.some Jvm.ClassFile.FieldType.int)) ∈ lw_all := lw_g (lw_at lw_m13 202 rfl) rfl
theorem q3220 : (Jvm.Cond.methodLink "SortingLoopModel" (378 : Nat) ({ cls := "SortingLoopModel", name := "gain", desc := "(II)I" } : Jvm.MethodName)) ∈ lw_all := lw_g (lw_at lw_m13 203 rfl) rfl
theorem q3221 : (Jvm.Cond.privateMethod ({ cls := "SortingLoopModel", name := "gain", desc := "(II)I" } : Jvm.MethodName)) ∈ lw_tbl := lw_at lw_m13 204 rfl
theorem q3222 : (Jvm.Cond.instanceMethod ({ cls := "SortingLoopModel", name := "gain", desc := "(II)I" } : Jvm.MethodName)) ∈ lw_all := lw_g (lw_at lw_m13 205 rfl) rfl
theorem q3223 : (Jvm.Cond.code ({ cls := "SortingLoopModel", name := "gain", desc := "(II)I" } : Jvm.MethodName) prog_19_method_103_code (8 : Nat) (Option.some Jvm.ClassFile.FieldType.int)) ∈ lw_all := lw_g (lw_at lw_m13 206 rfl) rfl
theorem q3225 : (Jvm.Cond.instanceMethod ({ cls := "SortingLoopModel", name := "bestEmpty", desc := "(I)I" } : Jvm.MethodName)) ∈ lw_all := lw_g (lw_at lw_m13 208 rfl) rfl
theorem q3226 : (Jvm.Cond.selects "SortingLoopModel" ({ cls := "SortingLoopModel", name := "bestEmpty", desc := "(I)I" } : Jvm.MethodName) ({ cls := "SortingLoopModel", name := "bestEmpty", desc := "(I)I" } : Jvm.MethodName)) ∈ lw_all := lw_g (lw_at lw_m13 209 rfl) rfl
theorem q3227 : (Jvm.Cond.code ({ cls := "SortingLoopModel", name := "bestEmpty", desc := "(I)I" } : Jvm.MethodName) prog_19_method_105_code (6 : Nat) (Option.some Jvm.ClassFile.FieldType.int)) ∈ lw_all := lw_g (lw_at lw_m13 210 rfl) rfl
theorem q3229 : (Jvm.Cond.instanceMethod ({ cls := "SortingLoopModel", name := "missortsIf", desc := "(III)I" } : Jvm.MethodName)) ∈ lw_all := lw_g (lw_at lw_m13 212 rfl) rfl
theorem q3230 : (Jvm.Cond.selects "SortingLoopModel" ({ cls := "SortingLoopModel", name := "missortsIf", desc := "(III)I" } : Jvm.MethodName) ({ cls := "SortingLoopModel", name := "missortsIf", desc := "(III)I" } : Jvm.MethodName)) ∈ lw_all := lw_g (lw_at lw_m13 213 rfl) rfl
theorem q3231 : (Jvm.Cond.code ({ cls := "SortingLoopModel", name := "missortsIf", desc := "(III)I" } : Jvm.MethodName) prog_19_method_106_code (7 : Nat) (Option.some Jvm.ClassFile.FieldType.int)) ∈ lw_all := lw_g (lw_at lw_m13 214 rfl) rfl
theorem q3233 : (Jvm.Cond.instanceMethod ({ cls := "SortingLoopModel", name := "clearIn", desc := "()I" } : Jvm.MethodName)) ∈ lw_all := lw_g (lw_at lw_m13 216 rfl) rfl
theorem q3234 : (Jvm.Cond.selects "SortingLoopModel" ({ cls := "SortingLoopModel", name := "clearIn", desc := "()I" } : Jvm.MethodName) ({ cls := "SortingLoopModel", name := "clearIn", desc := "()I" } : Jvm.MethodName)) ∈ lw_all := lw_g (lw_at lw_m13 217 rfl) rfl
theorem q3235 : (Jvm.Cond.code ({ cls := "SortingLoopModel", name := "clearIn", desc := "()I" } : Jvm.MethodName) prog_19_method_107_code (2 : Nat) (Option.some Jvm.ClassFile.FieldType.int)) ∈ lw_all := lw_g (lw_at lw_m13 218 rfl) rfl
theorem q3237 : (Jvm.Cond.instanceMethod ({ cls := "SortingLoopModel", name := "freeIn", desc := "()I" } : Jvm.MethodName)) ∈ lw_all := lw_g (lw_at lw_m13 220 rfl) rfl
theorem q3238 : (Jvm.Cond.selects "SortingLoopModel" ({ cls := "SortingLoopModel", name := "freeIn", desc := "()I" } : Jvm.MethodName) ({ cls := "SortingLoopModel", name := "freeIn", desc := "()I" } : Jvm.MethodName)) ∈ lw_all := lw_g (lw_at lw_m13 221 rfl) rfl
theorem q3239 : (Jvm.Cond.code ({ cls := "SortingLoopModel", name := "freeIn", desc := "()I" } : Jvm.MethodName) prog_19_method_108_code (2 : Nat) (Option.some Jvm.ClassFile.FieldType.int)) ∈ lw_all := lw_g (lw_at lw_m13 222 rfl) rfl
theorem q3241 : (Jvm.Cond.instanceMethod ({ cls := "SortingLoopModel", name := "agree", desc := "()Z" } : Jvm.MethodName)) ∈ lw_all := lw_g (lw_at lw_m13 224 rfl) rfl
theorem q3242 : (Jvm.Cond.selects "SortingLoopModel" ({ cls := "SortingLoopModel", name := "agree", desc := "()Z" } : Jvm.MethodName) ({ cls := "SortingLoopModel", name := "agree", desc := "()Z" } : Jvm.MethodName)) ∈ lw_all := lw_g (lw_at lw_m13 225 rfl) rfl
theorem q3243 : (Jvm.Cond.code ({ cls := "SortingLoopModel", name := "agree", desc := "()Z" } : Jvm.MethodName) prog_19_method_111_code (4 : Nat) (Option.some Jvm.ClassFile.FieldType.boolean)) ∈ lw_all := lw_g (lw_at lw_m13 226 rfl) rfl
theorem q3244 : (Jvm.Cond.methodLink "SortingLoopModel" (384 : Nat) ({ cls := "SortingLoopModel", name := "isRight", desc := "(I)Z" } : Jvm.MethodName)) ∈ lw_all := lw_g (lw_at lw_m13 227 rfl) rfl
theorem q3245 : (Jvm.Cond.privateMethod ({ cls := "SortingLoopModel", name := "isRight", desc := "(I)Z" } : Jvm.MethodName)) ∈ lw_tbl := lw_at lw_m13 228 rfl
theorem q3246 : (Jvm.Cond.instanceMethod ({ cls := "SortingLoopModel", name := "isRight", desc := "(I)Z" } : Jvm.MethodName)) ∈ lw_all := lw_g (lw_at lw_m13 229 rfl) rfl
theorem q3247 : (Jvm.Cond.code ({ cls := "SortingLoopModel", name := "isRight", desc := "(I)Z" } : Jvm.MethodName) prog_19_method_110_code (2 : Nat) (Option.some Jvm.ClassFile.FieldType.boolean)) ∈ lw_all := lw_g (lw_at lw_m13 230 rfl) rfl
theorem q3248 : (Jvm.Cond.methodLink "SortingLoopModel" (381 : Nat) ({ cls := "SortingLoopModel", name := "timesHeld", desc := "(I)I" } : Jvm.MethodName)) ∈ lw_all := lw_g (lw_at lw_m13 231 rfl) rfl
theorem q3249 : (Jvm.Cond.privateMethod ({ cls := "SortingLoopModel", name := "timesHeld", desc := "(I)I" } : Jvm.MethodName)) ∈ lw_tbl := lw_at lw_m13 232 rfl
theorem q3250 : (Jvm.Cond.instanceMethod ({ cls := "SortingLoopModel", name := "timesHeld", desc := "(I)I" } : Jvm.MethodName)) ∈ lw_all := lw_g (lw_at lw_m13 233 rfl) rfl
theorem q3251 : (Jvm.Cond.code ({ cls := "SortingLoopModel", name := "timesHeld", desc := "(I)I" } : Jvm.MethodName) prog_19_method_109_code (5 : Nat) (Option.some Jvm.ClassFile.FieldType.int)) ∈ lw_all := lw_g (lw_at lw_m13 234 rfl) rfl
theorem q3253 : (Jvm.Cond.instanceMethod ({ cls := "SortingLoopModel", name := "sortedPart", desc := "()D" } : Jvm.MethodName)) ∈ lw_all := lw_g (lw_at lw_m13 236 rfl) rfl
theorem q3254 : (Jvm.Cond.selects "SortingLoopModel" ({ cls := "SortingLoopModel", name := "sortedPart", desc := "()D" } : Jvm.MethodName) ({ cls := "SortingLoopModel", name := "sortedPart", desc := "()D" } : Jvm.MethodName)) ∈ lw_all := lw_g (lw_at lw_m13 237 rfl) rfl
theorem q3255 : (Jvm.Cond.code ({ cls := "SortingLoopModel", name := "sortedPart", desc := "()D" } : Jvm.MethodName) prog_19_method_112_code (3 : Nat) (Option.some Jvm.ClassFile.FieldType.double)) ∈ lw_all := lw_g (lw_at lw_m13 238 rfl) rfl
theorem q3257 : (Jvm.Cond.instanceMethod ({ cls := "SortingLoopModel", name := "load", desc := "()F" } : Jvm.MethodName)) ∈ lw_all := lw_g (lw_at lw_m14 0 rfl) rfl
theorem q3258 : (Jvm.Cond.selects "SortingLoopModel" ({ cls := "SortingLoopModel", name := "load", desc := "()F" } : Jvm.MethodName) ({ cls := "SortingLoopModel", name := "load", desc := "()F" } : Jvm.MethodName)) ∈ lw_all := lw_g (lw_at lw_m14 1 rfl) rfl
theorem q3259 : (Jvm.Cond.code ({ cls := "SortingLoopModel", name := "load", desc := "()F" } : Jvm.MethodName) prog_19_method_113_code (1 : Nat) (Option.some Jvm.ClassFile.FieldType.float)) ∈ lw_all := lw_g (lw_at lw_m14 2 rfl) rfl
theorem q3261 : (Jvm.Cond.instanceMethod ({ cls := "SortingLoopModel", name := "put", desc := "(II)I" } : Jvm.MethodName)) ∈ lw_all := lw_g (lw_at lw_m14 4 rfl) rfl
theorem q3262 : (Jvm.Cond.selects "SortingLoopModel" ({ cls := "SortingLoopModel", name := "put", desc := "(II)I" } : Jvm.MethodName) ({ cls := "SortingLoopModel", name := "put", desc := "(II)I" } : Jvm.MethodName)) ∈ lw_all := lw_g (lw_at lw_m14 5 rfl) rfl
theorem q3263 : (Jvm.Cond.code ({ cls := "SortingLoopModel", name := "put", desc := "(II)I" } : Jvm.MethodName) prog_19_method_114_code (3 : Nat) (Option.some Jvm.ClassFile.FieldType.int)) ∈ lw_all := lw_g (lw_at lw_m14 6 rfl) rfl
theorem q3265 : (Jvm.Cond.instanceMethod ({ cls := "SortingLoopModel", name := "tick", desc := "(I)I" } : Jvm.MethodName)) ∈ lw_all := lw_g (lw_at lw_m14 8 rfl) rfl
theorem q3266 : (Jvm.Cond.selects "SortingLoopModel" ({ cls := "SortingLoopModel", name := "tick", desc := "(I)I" } : Jvm.MethodName) ({ cls := "SortingLoopModel", name := "tick", desc := "(I)I" } : Jvm.MethodName)) ∈ lw_all := lw_g (lw_at lw_m14 9 rfl) rfl
theorem q3267 : (Jvm.Cond.code ({ cls := "SortingLoopModel", name := "tick", desc := "(I)I" } : Jvm.MethodName) prog_19_method_115_code (2 : Nat) (Option.some Jvm.ClassFile.FieldType.int)) ∈ lw_all := lw_g (lw_at lw_m14 10 rfl) rfl
theorem q3269 : (Jvm.Cond.instanceMethod ({ cls := "SortingLoopModel", name := "slip", desc := "(I)I" } : Jvm.MethodName)) ∈ lw_all := lw_g (lw_at lw_m14 12 rfl) rfl
theorem q3270 : (Jvm.Cond.selects "SortingLoopModel" ({ cls := "SortingLoopModel", name := "slip", desc := "(I)I" } : Jvm.MethodName) ({ cls := "SortingLoopModel", name := "slip", desc := "(I)I" } : Jvm.MethodName)) ∈ lw_all := lw_g (lw_at lw_m14 13 rfl) rfl
theorem q3271 : (Jvm.Cond.code ({ cls := "SortingLoopModel", name := "slip", desc := "(I)I" } : Jvm.MethodName) prog_19_method_116_code (2 : Nat) (Option.some Jvm.ClassFile.FieldType.int)) ∈ lw_all := lw_g (lw_at lw_m14 14 rfl) rfl
theorem q3273 : (Jvm.Cond.instanceMethod ({ cls := "SortingLoopModel", name := "empty", desc := "(I)I" } : Jvm.MethodName)) ∈ lw_all := lw_g (lw_at lw_m14 16 rfl) rfl
theorem q3274 : (Jvm.Cond.selects "SortingLoopModel" ({ cls := "SortingLoopModel", name := "empty", desc := "(I)I" } : Jvm.MethodName) ({ cls := "SortingLoopModel", name := "empty", desc := "(I)I" } : Jvm.MethodName)) ∈ lw_all := lw_g (lw_at lw_m14 17 rfl) rfl
theorem q3275 : (Jvm.Cond.code ({ cls := "SortingLoopModel", name := "empty", desc := "(I)I" } : Jvm.MethodName) prog_19_method_117_code (2 : Nat) (Option.some Jvm.ClassFile.FieldType.int)) ∈ lw_all := lw_g (lw_at lw_m14 18 rfl) rfl
theorem q3277 : (Jvm.Cond.instanceMethod ({ cls := "SortingLoopModel", name := "shut", desc := "(IZ)I" } : Jvm.MethodName)) ∈ lw_all := lw_g (lw_at lw_m14 20 rfl) rfl
theorem q3278 : (Jvm.Cond.selects "SortingLoopModel" ({ cls := "SortingLoopModel", name := "shut", desc := "(IZ)I" } : Jvm.MethodName) ({ cls := "SortingLoopModel", name := "shut", desc := "(IZ)I" } : Jvm.MethodName)) ∈ lw_all := lw_g (lw_at lw_m14 21 rfl) rfl
theorem q3279 : (Jvm.Cond.code ({ cls := "SortingLoopModel", name := "shut", desc := "(IZ)I" } : Jvm.MethodName) prog_19_method_118_code (3 : Nat) (Option.some Jvm.ClassFile.FieldType.int)) ∈ lw_all := lw_g (lw_at lw_m14 22 rfl) rfl
theorem q3281 : (Jvm.Cond.instanceMethod ({ cls := "SortingLoopModel", name := "set", desc := "(II)I" } : Jvm.MethodName)) ∈ lw_all := lw_g (lw_at lw_m14 24 rfl) rfl
theorem q3282 : (Jvm.Cond.selects "SortingLoopModel" ({ cls := "SortingLoopModel", name := "set", desc := "(II)I" } : Jvm.MethodName) ({ cls := "SortingLoopModel", name := "set", desc := "(II)I" } : Jvm.MethodName)) ∈ lw_all := lw_g (lw_at lw_m14 25 rfl) rfl
theorem q3283 : (Jvm.Cond.code ({ cls := "SortingLoopModel", name := "set", desc := "(II)I" } : Jvm.MethodName) prog_19_method_119_code (3 : Nat) (Option.some Jvm.ClassFile.FieldType.int)) ∈ lw_all := lw_g (lw_at lw_m14 26 rfl) rfl
theorem q3285 : (Jvm.Cond.instanceMethod ({ cls := "SortingLoopModel", name := "undo", desc := "()I" } : Jvm.MethodName)) ∈ lw_all := lw_g (lw_at lw_m14 28 rfl) rfl
theorem q3286 : (Jvm.Cond.selects "SortingLoopModel" ({ cls := "SortingLoopModel", name := "undo", desc := "()I" } : Jvm.MethodName) ({ cls := "SortingLoopModel", name := "undo", desc := "()I" } : Jvm.MethodName)) ∈ lw_all := lw_g (lw_at lw_m14 29 rfl) rfl
theorem q3287 : (Jvm.Cond.code ({ cls := "SortingLoopModel", name := "undo", desc := "()I" } : Jvm.MethodName) prog_19_method_120_code (1 : Nat) (Option.some Jvm.ClassFile.FieldType.int)) ∈ lw_all := lw_g (lw_at lw_m14 30 rfl) rfl
theorem q3289 : (Jvm.Cond.instanceMethod ({ cls := "SortingLoopModel", name := "printLoop", desc := "()I" } : Jvm.MethodName)) ∈ lw_all := lw_g (lw_at lw_m14 32 rfl) rfl
theorem q3290 : (Jvm.Cond.selects "SortingLoopModel" ({ cls := "SortingLoopModel", name := "printLoop", desc := "()I" } : Jvm.MethodName) ({ cls := "SortingLoopModel", name := "printLoop", desc := "()I" } : Jvm.MethodName)) ∈ lw_all := lw_g (lw_at lw_m14 33 rfl) rfl
theorem q3291 : (Jvm.Cond.code ({ cls := "SortingLoopModel", name := "printLoop", desc := "()I" } : Jvm.MethodName) prog_19_method_124_code (2 : Nat) (Option.some Jvm.ClassFile.FieldType.int)) ∈ lw_all := lw_g (lw_at lw_m14 34 rfl) rfl
theorem q3292 : (Jvm.Cond.methodLink "SortingLoopModel" (393 : Nat) ({ cls := "SortingLoopModel", name := "signOf", desc := "(I)I" } : Jvm.MethodName)) ∈ lw_all := lw_g (lw_at lw_m14 35 rfl) rfl
theorem q3293 : (Jvm.Cond.privateMethod ({ cls := "SortingLoopModel", name := "signOf", desc := "(I)I" } : Jvm.MethodName)) ∈ lw_tbl := lw_at lw_m14 36 rfl
theorem q3294 : (Jvm.Cond.instanceMethod ({ cls := "SortingLoopModel", name := "signOf", desc := "(I)I" } : Jvm.MethodName)) ∈ lw_all := lw_g (lw_at lw_m14 37 rfl) rfl
theorem q3295 : (Jvm.Cond.code ({ cls := "SortingLoopModel", name := "signOf", desc := "(I)I" } : Jvm.MethodName) prog_19_method_123_code (2 : Nat) (Option.some Jvm.ClassFile.FieldType.int)) ∈ lw_all := lw_g (lw_at lw_m14 38 rfl) rfl
theorem q3296 : (Jvm.Cond.methodLink "SortingLoopModel" (390 : Nat) ({ cls := "SortingLoopModel", name := "write", desc := "(I)V" } : Jvm.MethodName)) ∈ lw_all := lw_g (lw_at lw_m14 39 rfl) rfl
theorem q3297 : (Jvm.Cond.privateMethod ({ cls := "SortingLoopModel", name := "write", desc := "(I)V" } : Jvm.MethodName)) ∈ lw_tbl := lw_at lw_m14 40 rfl
theorem q3298 : (Jvm.Cond.instanceMethod ({ cls := "SortingLoopModel", name := "write", desc := "(I)V" } : Jvm.MethodName)) ∈ lw_all := lw_g (lw_at lw_m14 41 rfl) rfl
theorem q3299 : (Jvm.Cond.code ({ cls := "SortingLoopModel", name := "write", desc := "(I)V" } : Jvm.MethodName) prog_19_method_121_code (2 : Nat) (Option.none : Option Jvm.ClassFile.FieldType)) ∈ lw_all := lw_g (lw_at lw_m14 42 rfl) rfl
theorem q3301 : (Jvm.Cond.instanceMethod ({ cls := "SortingLoopModel", name := "printChutes", desc := "()I" } : Jvm.MethodName)) ∈ lw_all := lw_g (lw_at lw_m14 44 rfl) rfl
theorem q3302 : (Jvm.Cond.selects "SortingLoopModel" ({ cls := "SortingLoopModel", name := "printChutes", desc := "()I" } : Jvm.MethodName) ({ cls := "SortingLoopModel", name := "printChutes", desc := "()I" } : Jvm.MethodName)) ∈ lw_all := lw_g (lw_at lw_m14 45 rfl) rfl
theorem q3303 : (Jvm.Cond.code ({ cls := "SortingLoopModel", name := "printChutes", desc := "()I" } : Jvm.MethodName) prog_19_method_125_code (3 : Nat) (Option.some Jvm.ClassFile.FieldType.int)) ∈ lw_all := lw_g (lw_at lw_m14 46 rfl) rfl
theorem q3304 : (Jvm.Cond.methodLink "SortingLoopModel" (396 : Nat) ({ cls := "SortingLoopModel", name := "writeNumber", desc := "(I)V" } : Jvm.MethodName)) ∈ lw_all := lw_g (lw_at lw_m14 47 rfl) rfl
theorem q3305 : (Jvm.Cond.privateMethod ({ cls := "SortingLoopModel", name := "writeNumber", desc := "(I)V" } : Jvm.MethodName)) ∈ lw_tbl := lw_at lw_m14 48 rfl
theorem q3306 : (Jvm.Cond.instanceMethod ({ cls := "SortingLoopModel", name := "writeNumber", desc := "(I)V" } : Jvm.MethodName)) ∈ lw_all := lw_g (lw_at lw_m14 49 rfl) rfl
theorem q3307 : (Jvm.Cond.code ({ cls := "SortingLoopModel", name := "writeNumber", desc := "(I)V" } : Jvm.MethodName) prog_19_method_122_code (2 : Nat) (Option.none : Option Jvm.ClassFile.FieldType)) ∈ lw_all := lw_g (lw_at lw_m14 50 rfl) rfl
theorem q3309 : (Jvm.Cond.instanceMethod ({ cls := "SortingLoopModel", name := "outputByte", desc := "(I)I" } : Jvm.MethodName)) ∈ lw_all := lw_g (lw_at lw_m14 52 rfl) rfl
theorem q3310 : (Jvm.Cond.selects "SortingLoopModel" ({ cls := "SortingLoopModel", name := "outputByte", desc := "(I)I" } : Jvm.MethodName) ({ cls := "SortingLoopModel", name := "outputByte", desc := "(I)I" } : Jvm.MethodName)) ∈ lw_all := lw_g (lw_at lw_m14 53 rfl) rfl
theorem q3311 : (Jvm.Cond.code ({ cls := "SortingLoopModel", name := "outputByte", desc := "(I)I" } : Jvm.MethodName) prog_19_method_126_code (2 : Nat) (Option.some Jvm.ClassFile.FieldType.int)) ∈ lw_all := lw_g (lw_at lw_m14 54 rfl) rfl
theorem q3313 : (Jvm.Cond.instanceMethod ({ cls := "SortingLoopModel", name := "saveState", desc := "()I" } : Jvm.MethodName)) ∈ lw_all := lw_g (lw_at lw_m14 56 rfl) rfl
theorem q3314 : (Jvm.Cond.selects "SortingLoopModel" ({ cls := "SortingLoopModel", name := "saveState", desc := "()I" } : Jvm.MethodName) ({ cls := "SortingLoopModel", name := "saveState", desc := "()I" } : Jvm.MethodName)) ∈ lw_all := lw_g (lw_at lw_m14 57 rfl) rfl
theorem q3315 : (Jvm.Cond.code ({ cls := "SortingLoopModel", name := "saveState", desc := "()I" } : Jvm.MethodName) prog_19_method_127_code (1 : Nat) (Option.some Jvm.ClassFile.FieldType.int)) ∈ lw_all := lw_g (lw_at lw_m14 58 rfl) rfl
theorem q3317 : (Jvm.Cond.instanceMethod ({ cls := "SortingLoopModel", name := "restoreState", desc := "()I" } : Jvm.MethodName)) ∈ lw_all := lw_g (lw_at lw_m14 60 rfl) rfl
theorem q3318 : (Jvm.Cond.selects "SortingLoopModel" ({ cls := "SortingLoopModel", name := "restoreState", desc := "()I" } : Jvm.MethodName) ({ cls := "SortingLoopModel", name := "restoreState", desc := "()I" } : Jvm.MethodName)) ∈ lw_all := lw_g (lw_at lw_m14 61 rfl) rfl
theorem q3319 : (Jvm.Cond.code ({ cls := "SortingLoopModel", name := "restoreState", desc := "()I" } : Jvm.MethodName) prog_19_method_128_code (1 : Nat) (Option.some Jvm.ClassFile.FieldType.int)) ∈ lw_all := lw_g (lw_at lw_m14 62 rfl) rfl
theorem q3374 : (Jvm.Cond.castable "SortingLoopModel" "java/lang/Object") ∈ lw_tbl := lw_at lw_m14 117 rfl
theorem in_X6 : ∀ w ∈ wsX60, w ∈ lw_all := lw_in wsX60 [2756, 2758, 2760, 2762, 2764, 2766, 2768, 2770, 2772, 2774, 2776, 2778, 2780, 2782, 2784, 2786, 2788, 2790, 2792, 2794, 2796, 2798, 2800, 2802, 2804, 2806] (by decide +kernel) (by decide +kernel)

