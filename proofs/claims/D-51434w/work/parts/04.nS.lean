/-! SortingLoop -/
set_option maxRecDepth 100000
def RX1 : String := "SortingLoop"
def TX1 : u_T := fun k => match k with
  | 0 => ("SortingLoop", "input", "[B", true)
  | 1 => ("SortingLoop", "inputLength", "I", false)
  | 2 => ("SortingLoop", "errorCode", "I", false)
  | 3 => ("SortingLoop", "errorOffset", "I", false)
  | 4 => ("SortingLoop", "now", "LSortingLoop$Loop;", false)
  | 5 => ("SortingLoop", "saved", "LSortingLoop$Loop;", false)
  | 6 => ("SortingLoop", "thought", "LSortingLoop$Loop;", false)
  | 7 => ("SortingLoop", "history", "Ljava/util/ArrayDeque;", true)
  | _ => ("SortingLoop", "output", "Ljava/lang/StringBuilder;", true)
def tyX1 : Nat → FieldType := fun k => match k with
  | 0 => .array .byte
  | 1 => .int
  | 2 => .int
  | 3 => .int
  | 4 => .object "SortingLoop$Loop"
  | 5 => .object "SortingLoop$Loop"
  | 6 => .object "SortingLoop$Loop"
  | 7 => .object "java/util/ArrayDeque"
  | _ => .object "java/lang/StringBuilder"
abbrev wsX10 : List Cond := u_ws RX1 TX1 9
theorem nmX1 : ∀ a, a < 9 → ∀ b, b < 9 → a ≠ b → (TX1 a).2.1 ≠ (TX1 b).2.1 := by decide +kernel
theorem tyX1_ok : ∀ k, k < 9 → parseFieldDescriptor (TX1 k).2.2.1 = some (tyX1 k) := by decide +kernel
abbrev cX1_init : ByteArray := prog_1_method_7_code
def yX1_init : MethodName := ⟨RX1, "<init>", "()V"⟩
def dkwX1_init_0 : List UInt8 := [42, 184, 0, 16, 183, 0, 22, 177]
abbrev dktX1_init_0 : List UInt8 := dkwX1_init_0 ++ []
theorem dksX1_init_0 : cX1_init.data.toList.drop 0 = dktX1_init_0 := by decide +kernel
theorem dX1_init_0 : decode cX1_init 0 = .ok (.aload_n 0, 1) := dk_42 (dk_at dksX1_init_0 0 rfl rfl)
theorem dX1_init_1 : decode cX1_init 1 = .ok (.invokestatic 16, 3) := dk_184 0 16 (dk_at dksX1_init_0 1 rfl rfl)
theorem dX1_init_4 : decode cX1_init 4 = .ok (.invokespecial 22, 3) := dk_183 0 22 (dk_at dksX1_init_0 4 rfl rfl)
theorem dX1_init_7 : decode cX1_init 7 = .ok (.return_, 1) := dk_177 (dk_at dksX1_init_0 7 rfl rfl)
abbrev cX1_first : ByteArray := prog_1_method_9_code
def yX1_first : MethodName := ⟨RX1, "first", "()LSortingLoop$Loop;"⟩
def dkwX1_first_3 : List UInt8 := [187, 0, 73, 89, 5, 16, 9, 4, 3, 7, 183, 0, 75, 185, 0, 78, 2, 0, 87, 42, 176]
abbrev dktX1_first_3 : List UInt8 := dkwX1_first_3 ++ []
def dkwX1_first_2 : List UInt8 := [187, 0, 73, 89, 4, 16, 7, 6, 3, 3, 183, 0, 75, 185, 0, 78, 2, 0, 87, 42, 180, 0, 69]
abbrev dktX1_first_2 : List UInt8 := dkwX1_first_2 ++ dktX1_first_3
def dkwX1_first_1 : List UInt8 := [187, 0, 73, 89, 3, 7, 5, 4, 4, 183, 0, 75, 185, 0, 78, 2, 0, 87, 42, 180, 0, 69]
abbrev dktX1_first_1 : List UInt8 := dkwX1_first_1 ++ dktX1_first_2
def dkwX1_first_0 : List UInt8 := [187, 0, 55, 89, 16, 12, 3, 183, 0, 62, 75, 42, 180, 0, 65, 5, 4, 84, 42, 180, 0, 69]
abbrev dktX1_first_0 : List UInt8 := dkwX1_first_0 ++ dktX1_first_1
theorem dksX1_first_0 : cX1_first.data.toList.drop 0 = dktX1_first_0 := by decide +kernel
theorem dksX1_first_1 : cX1_first.data.toList.drop 22 = dktX1_first_1 := dk_seg dksX1_first_0 22 rfl rfl
theorem dksX1_first_2 : cX1_first.data.toList.drop 44 = dktX1_first_2 := dk_seg dksX1_first_1 22 rfl rfl
theorem dksX1_first_3 : cX1_first.data.toList.drop 67 = dktX1_first_3 := dk_seg dksX1_first_2 23 rfl rfl
theorem dX1_first_0 : decode cX1_first 0 = .ok (.new 55, 3) := dk_187 0 55 (dk_at dksX1_first_0 0 rfl rfl)
theorem dX1_first_3 : decode cX1_first 3 = .ok (.dup, 1) := dk_89 (dk_at dksX1_first_0 3 rfl rfl)
theorem dX1_first_4 : decode cX1_first 4 = .ok (.bipush 12, 2) := dk_16 12 (dk_at dksX1_first_0 4 rfl rfl)
theorem dX1_first_6 : decode cX1_first 6 = .ok (.iconst 0, 1) := dk_3 (dk_at dksX1_first_0 6 rfl rfl)
theorem dX1_first_7 : decode cX1_first 7 = .ok (.invokespecial 62, 3) := dk_183 0 62 (dk_at dksX1_first_0 7 rfl rfl)
theorem dX1_first_10 : decode cX1_first 10 = .ok (.astore_n 0, 1) := dk_75 (dk_at dksX1_first_0 10 rfl rfl)
theorem dX1_first_11 : decode cX1_first 11 = .ok (.aload_n 0, 1) := dk_42 (dk_at dksX1_first_0 11 rfl rfl)
theorem dX1_first_12 : decode cX1_first 12 = .ok (.getfield 65, 3) := dk_180 0 65 (dk_at dksX1_first_0 12 rfl rfl)
theorem dX1_first_15 : decode cX1_first 15 = .ok (.iconst 2, 1) := dk_5 (dk_at dksX1_first_0 15 rfl rfl)
theorem dX1_first_16 : decode cX1_first 16 = .ok (.iconst 1, 1) := dk_4 (dk_at dksX1_first_0 16 rfl rfl)
theorem dX1_first_17 : decode cX1_first 17 = .ok (.bastore, 1) := dk_84 (dk_at dksX1_first_0 17 rfl rfl)
theorem dX1_first_18 : decode cX1_first 18 = .ok (.aload_n 0, 1) := dk_42 (dk_at dksX1_first_0 18 rfl rfl)
theorem dX1_first_19 : decode cX1_first 19 = .ok (.getfield 69, 3) := dk_180 0 69 (dk_at dksX1_first_0 19 rfl rfl)
theorem dX1_first_22 : decode cX1_first 22 = .ok (.new 73, 3) := dk_187 0 73 (dk_at dksX1_first_1 0 rfl rfl)
theorem dX1_first_25 : decode cX1_first 25 = .ok (.dup, 1) := dk_89 (dk_at dksX1_first_1 3 rfl rfl)
theorem dX1_first_26 : decode cX1_first 26 = .ok (.iconst 0, 1) := dk_3 (dk_at dksX1_first_1 4 rfl rfl)
theorem dX1_first_27 : decode cX1_first 27 = .ok (.iconst 4, 1) := dk_7 (dk_at dksX1_first_1 5 rfl rfl)
theorem dX1_first_28 : decode cX1_first 28 = .ok (.iconst 2, 1) := dk_5 (dk_at dksX1_first_1 6 rfl rfl)
theorem dX1_first_29 : decode cX1_first 29 = .ok (.iconst 1, 1) := dk_4 (dk_at dksX1_first_1 7 rfl rfl)
theorem dX1_first_30 : decode cX1_first 30 = .ok (.iconst 1, 1) := dk_4 (dk_at dksX1_first_1 8 rfl rfl)
theorem dX1_first_31 : decode cX1_first 31 = .ok (.invokespecial 75, 3) := dk_183 0 75 (dk_at dksX1_first_1 9 rfl rfl)
theorem dX1_first_34 : decode cX1_first 34 = .ok (.invokeinterface 78 2, 5) := by decide +kernel
theorem dX1_first_39 : decode cX1_first 39 = .ok (.pop, 1) := dk_87 (dk_at dksX1_first_1 17 rfl rfl)
theorem dX1_first_40 : decode cX1_first 40 = .ok (.aload_n 0, 1) := dk_42 (dk_at dksX1_first_1 18 rfl rfl)
theorem dX1_first_41 : decode cX1_first 41 = .ok (.getfield 69, 3) := dk_180 0 69 (dk_at dksX1_first_1 19 rfl rfl)
theorem dX1_first_44 : decode cX1_first 44 = .ok (.new 73, 3) := dk_187 0 73 (dk_at dksX1_first_2 0 rfl rfl)
theorem dX1_first_47 : decode cX1_first 47 = .ok (.dup, 1) := dk_89 (dk_at dksX1_first_2 3 rfl rfl)
theorem dX1_first_48 : decode cX1_first 48 = .ok (.iconst 1, 1) := dk_4 (dk_at dksX1_first_2 4 rfl rfl)
theorem dX1_first_49 : decode cX1_first 49 = .ok (.bipush 7, 2) := dk_16 7 (dk_at dksX1_first_2 5 rfl rfl)
theorem dX1_first_51 : decode cX1_first 51 = .ok (.iconst 3, 1) := dk_6 (dk_at dksX1_first_2 7 rfl rfl)
theorem dX1_first_52 : decode cX1_first 52 = .ok (.iconst 0, 1) := dk_3 (dk_at dksX1_first_2 8 rfl rfl)
theorem dX1_first_53 : decode cX1_first 53 = .ok (.iconst 0, 1) := dk_3 (dk_at dksX1_first_2 9 rfl rfl)
theorem dX1_first_54 : decode cX1_first 54 = .ok (.invokespecial 75, 3) := dk_183 0 75 (dk_at dksX1_first_2 10 rfl rfl)
theorem dX1_first_57 : decode cX1_first 57 = .ok (.invokeinterface 78 2, 5) := by decide +kernel
theorem dX1_first_62 : decode cX1_first 62 = .ok (.pop, 1) := dk_87 (dk_at dksX1_first_2 18 rfl rfl)
theorem dX1_first_63 : decode cX1_first 63 = .ok (.aload_n 0, 1) := dk_42 (dk_at dksX1_first_2 19 rfl rfl)
theorem dX1_first_64 : decode cX1_first 64 = .ok (.getfield 69, 3) := dk_180 0 69 (dk_at dksX1_first_2 20 rfl rfl)
theorem dX1_first_67 : decode cX1_first 67 = .ok (.new 73, 3) := dk_187 0 73 (dk_at dksX1_first_3 0 rfl rfl)
theorem dX1_first_70 : decode cX1_first 70 = .ok (.dup, 1) := dk_89 (dk_at dksX1_first_3 3 rfl rfl)
theorem dX1_first_71 : decode cX1_first 71 = .ok (.iconst 2, 1) := dk_5 (dk_at dksX1_first_3 4 rfl rfl)
theorem dX1_first_72 : decode cX1_first 72 = .ok (.bipush 9, 2) := dk_16 9 (dk_at dksX1_first_3 5 rfl rfl)
theorem dX1_first_74 : decode cX1_first 74 = .ok (.iconst 1, 1) := dk_4 (dk_at dksX1_first_3 7 rfl rfl)
theorem dX1_first_75 : decode cX1_first 75 = .ok (.iconst 0, 1) := dk_3 (dk_at dksX1_first_3 8 rfl rfl)
theorem dX1_first_76 : decode cX1_first 76 = .ok (.iconst 4, 1) := dk_7 (dk_at dksX1_first_3 9 rfl rfl)
theorem dX1_first_77 : decode cX1_first 77 = .ok (.invokespecial 75, 3) := dk_183 0 75 (dk_at dksX1_first_3 10 rfl rfl)
theorem dX1_first_80 : decode cX1_first 80 = .ok (.invokeinterface 78 2, 5) := by decide +kernel
theorem dX1_first_85 : decode cX1_first 85 = .ok (.pop, 1) := dk_87 (dk_at dksX1_first_3 18 rfl rfl)
theorem dX1_first_86 : decode cX1_first 86 = .ok (.aload_n 0, 1) := dk_42 (dk_at dksX1_first_3 19 rfl rfl)
theorem dX1_first_87 : decode cX1_first 87 = .ok (.areturn, 1) := dk_176 (dk_at dksX1_first_3 20 rfl rfl)
abbrev cX1_init_2 : ByteArray := prog_1_method_8_code
def yX1_init_2 : MethodName := ⟨RX1, "<init>", "(LSortingLoop$Loop;)V"⟩
def dkwX1_init_2_2 : List UInt8 := [182, 0, 54, 181, 0, 59, 177]
abbrev dktX1_init_2_2 : List UInt8 := dkwX1_init_2_2 ++ []
def dkwX1_init_2_1 : List UInt8 := [183, 0, 38, 181, 0, 39, 42, 187, 0, 43, 89, 183, 0, 45, 181, 0, 46, 42, 43, 181, 0, 50, 42, 43]
abbrev dktX1_init_2_1 : List UInt8 := dkwX1_init_2_1 ++ dktX1_init_2_2
def dkwX1_init_2_0 : List UInt8 := [42, 183, 0, 25, 42, 17, 2, 88, 188, 8, 181, 0, 28, 42, 2, 181, 0, 32, 42, 187, 0, 36, 89]
abbrev dktX1_init_2_0 : List UInt8 := dkwX1_init_2_0 ++ dktX1_init_2_1
theorem dksX1_init_2_0 : cX1_init_2.data.toList.drop 0 = dktX1_init_2_0 := by decide +kernel
theorem dksX1_init_2_1 : cX1_init_2.data.toList.drop 23 = dktX1_init_2_1 := dk_seg dksX1_init_2_0 23 rfl rfl
theorem dksX1_init_2_2 : cX1_init_2.data.toList.drop 47 = dktX1_init_2_2 := dk_seg dksX1_init_2_1 24 rfl rfl
theorem dX1_init_2_0 : decode cX1_init_2 0 = .ok (.aload_n 0, 1) := dk_42 (dk_at dksX1_init_2_0 0 rfl rfl)
theorem dX1_init_2_1 : decode cX1_init_2 1 = .ok (.invokespecial 25, 3) := dk_183 0 25 (dk_at dksX1_init_2_0 1 rfl rfl)
theorem dX1_init_2_4 : decode cX1_init_2 4 = .ok (.aload_n 0, 1) := dk_42 (dk_at dksX1_init_2_0 4 rfl rfl)
theorem dX1_init_2_5 : decode cX1_init_2 5 = .ok (.sipush 600, 3) := dk_17 2 88 (dk_at dksX1_init_2_0 5 rfl rfl)
theorem dX1_init_2_8 : decode cX1_init_2 8 = .ok (.newarray .byte, 2) := dk_188_8 (dk_at dksX1_init_2_0 8 rfl rfl)
theorem dX1_init_2_10 : decode cX1_init_2 10 = .ok (.putfield 28, 3) := dk_181 0 28 (dk_at dksX1_init_2_0 10 rfl rfl)
theorem dX1_init_2_13 : decode cX1_init_2 13 = .ok (.aload_n 0, 1) := dk_42 (dk_at dksX1_init_2_0 13 rfl rfl)
theorem dX1_init_2_14 : decode cX1_init_2 14 = .ok (.iconst (-1), 1) := dk_2 (dk_at dksX1_init_2_0 14 rfl rfl)
theorem dX1_init_2_15 : decode cX1_init_2 15 = .ok (.putfield 32, 3) := dk_181 0 32 (dk_at dksX1_init_2_0 15 rfl rfl)
theorem dX1_init_2_18 : decode cX1_init_2 18 = .ok (.aload_n 0, 1) := dk_42 (dk_at dksX1_init_2_0 18 rfl rfl)
theorem dX1_init_2_19 : decode cX1_init_2 19 = .ok (.new 36, 3) := dk_187 0 36 (dk_at dksX1_init_2_0 19 rfl rfl)
theorem dX1_init_2_22 : decode cX1_init_2 22 = .ok (.dup, 1) := dk_89 (dk_at dksX1_init_2_0 22 rfl rfl)
theorem dX1_init_2_23 : decode cX1_init_2 23 = .ok (.invokespecial 38, 3) := dk_183 0 38 (dk_at dksX1_init_2_1 0 rfl rfl)
theorem dX1_init_2_26 : decode cX1_init_2 26 = .ok (.putfield 39, 3) := dk_181 0 39 (dk_at dksX1_init_2_1 3 rfl rfl)
theorem dX1_init_2_29 : decode cX1_init_2 29 = .ok (.aload_n 0, 1) := dk_42 (dk_at dksX1_init_2_1 6 rfl rfl)
theorem dX1_init_2_30 : decode cX1_init_2 30 = .ok (.new 43, 3) := dk_187 0 43 (dk_at dksX1_init_2_1 7 rfl rfl)
theorem dX1_init_2_33 : decode cX1_init_2 33 = .ok (.dup, 1) := dk_89 (dk_at dksX1_init_2_1 10 rfl rfl)
theorem dX1_init_2_34 : decode cX1_init_2 34 = .ok (.invokespecial 45, 3) := dk_183 0 45 (dk_at dksX1_init_2_1 11 rfl rfl)
theorem dX1_init_2_37 : decode cX1_init_2 37 = .ok (.putfield 46, 3) := dk_181 0 46 (dk_at dksX1_init_2_1 14 rfl rfl)
theorem dX1_init_2_40 : decode cX1_init_2 40 = .ok (.aload_n 0, 1) := dk_42 (dk_at dksX1_init_2_1 17 rfl rfl)
theorem dX1_init_2_41 : decode cX1_init_2 41 = .ok (.aload_n 1, 1) := dk_43 (dk_at dksX1_init_2_1 18 rfl rfl)
theorem dX1_init_2_42 : decode cX1_init_2 42 = .ok (.putfield 50, 3) := dk_181 0 50 (dk_at dksX1_init_2_1 19 rfl rfl)
theorem dX1_init_2_45 : decode cX1_init_2 45 = .ok (.aload_n 0, 1) := dk_42 (dk_at dksX1_init_2_1 22 rfl rfl)
theorem dX1_init_2_46 : decode cX1_init_2 46 = .ok (.aload_n 1, 1) := dk_43 (dk_at dksX1_init_2_1 23 rfl rfl)
theorem dX1_init_2_47 : decode cX1_init_2 47 = .ok (.invokevirtual 54, 3) := dk_182 0 54 (dk_at dksX1_init_2_2 0 rfl rfl)
theorem dX1_init_2_50 : decode cX1_init_2 50 = .ok (.putfield 59, 3) := dk_181 0 59 (dk_at dksX1_init_2_2 3 rfl rfl)
theorem dX1_init_2_53 : decode cX1_init_2 53 = .ok (.return_, 1) := dk_177 (dk_at dksX1_init_2_2 6 rfl rfl)
abbrev cX1_appendInput : ByteArray := prog_1_method_11_code
def yX1_appendInput : MethodName := ⟨RX1, "appendInput", "(IIIII)I"⟩
def dkwX1_appendInput_2 : List UInt8 := [172]
abbrev dktX1_appendInput_2 : List UInt8 := dkwX1_appendInput_2 ++ []
def dkwX1_appendInput_1 : List UInt8 := [182, 0, 87, 42, 29, 182, 0, 87, 42, 21, 4, 182, 0, 87, 42, 21, 5, 182, 0, 87, 42, 180, 0, 84]
abbrev dktX1_appendInput_1 : List UInt8 := dkwX1_appendInput_1 ++ dktX1_appendInput_2
def dkwX1_appendInput_0 : List UInt8 := [42, 180, 0, 84, 16, 20, 96, 17, 2, 88, 164, 0, 5, 2, 172, 42, 27, 182, 0, 87, 42, 28]
abbrev dktX1_appendInput_0 : List UInt8 := dkwX1_appendInput_0 ++ dktX1_appendInput_1
theorem dksX1_appendInput_0 : cX1_appendInput.data.toList.drop 0 = dktX1_appendInput_0 := by decide +kernel
theorem dksX1_appendInput_1 : cX1_appendInput.data.toList.drop 22 = dktX1_appendInput_1 := dk_seg dksX1_appendInput_0 22 rfl rfl
theorem dksX1_appendInput_2 : cX1_appendInput.data.toList.drop 46 = dktX1_appendInput_2 := dk_seg dksX1_appendInput_1 24 rfl rfl
theorem dX1_appendInput_0 : decode cX1_appendInput 0 = .ok (.aload_n 0, 1) := dk_42 (dk_at dksX1_appendInput_0 0 rfl rfl)
theorem dX1_appendInput_1 : decode cX1_appendInput 1 = .ok (.getfield 84, 3) := dk_180 0 84 (dk_at dksX1_appendInput_0 1 rfl rfl)
theorem dX1_appendInput_4 : decode cX1_appendInput 4 = .ok (.bipush 20, 2) := dk_16 20 (dk_at dksX1_appendInput_0 4 rfl rfl)
theorem dX1_appendInput_6 : decode cX1_appendInput 6 = .ok (.iadd, 1) := dk_96 (dk_at dksX1_appendInput_0 6 rfl rfl)
theorem dX1_appendInput_7 : decode cX1_appendInput 7 = .ok (.sipush 600, 3) := dk_17 2 88 (dk_at dksX1_appendInput_0 7 rfl rfl)
theorem dX1_appendInput_10 : decode cX1_appendInput 10 = .ok (.if_icmp .le 5, 3) := dk_164 0 5 (dk_at dksX1_appendInput_0 10 rfl rfl)
theorem dX1_appendInput_13 : decode cX1_appendInput 13 = .ok (.iconst (-1), 1) := dk_2 (dk_at dksX1_appendInput_0 13 rfl rfl)
theorem dX1_appendInput_14 : decode cX1_appendInput 14 = .ok (.ireturn, 1) := dk_172 (dk_at dksX1_appendInput_0 14 rfl rfl)
theorem dX1_appendInput_15 : decode cX1_appendInput 15 = .ok (.aload_n 0, 1) := dk_42 (dk_at dksX1_appendInput_0 15 rfl rfl)
theorem dX1_appendInput_16 : decode cX1_appendInput 16 = .ok (.iload_n 1, 1) := dk_27 (dk_at dksX1_appendInput_0 16 rfl rfl)
theorem dX1_appendInput_17 : decode cX1_appendInput 17 = .ok (.invokevirtual 87, 3) := dk_182 0 87 (dk_at dksX1_appendInput_0 17 rfl rfl)
theorem dX1_appendInput_20 : decode cX1_appendInput 20 = .ok (.aload_n 0, 1) := dk_42 (dk_at dksX1_appendInput_0 20 rfl rfl)
theorem dX1_appendInput_21 : decode cX1_appendInput 21 = .ok (.iload_n 2, 1) := dk_28 (dk_at dksX1_appendInput_0 21 rfl rfl)
theorem dX1_appendInput_22 : decode cX1_appendInput 22 = .ok (.invokevirtual 87, 3) := dk_182 0 87 (dk_at dksX1_appendInput_1 0 rfl rfl)
theorem dX1_appendInput_25 : decode cX1_appendInput 25 = .ok (.aload_n 0, 1) := dk_42 (dk_at dksX1_appendInput_1 3 rfl rfl)
theorem dX1_appendInput_26 : decode cX1_appendInput 26 = .ok (.iload_n 3, 1) := dk_29 (dk_at dksX1_appendInput_1 4 rfl rfl)
theorem dX1_appendInput_27 : decode cX1_appendInput 27 = .ok (.invokevirtual 87, 3) := dk_182 0 87 (dk_at dksX1_appendInput_1 5 rfl rfl)
theorem dX1_appendInput_30 : decode cX1_appendInput 30 = .ok (.aload_n 0, 1) := dk_42 (dk_at dksX1_appendInput_1 8 rfl rfl)
theorem dX1_appendInput_31 : decode cX1_appendInput 31 = .ok (.iload 4, 2) := dk_21 4 (dk_at dksX1_appendInput_1 9 rfl rfl)
theorem dX1_appendInput_33 : decode cX1_appendInput 33 = .ok (.invokevirtual 87, 3) := dk_182 0 87 (dk_at dksX1_appendInput_1 11 rfl rfl)
theorem dX1_appendInput_36 : decode cX1_appendInput 36 = .ok (.aload_n 0, 1) := dk_42 (dk_at dksX1_appendInput_1 14 rfl rfl)
theorem dX1_appendInput_37 : decode cX1_appendInput 37 = .ok (.iload 5, 2) := dk_21 5 (dk_at dksX1_appendInput_1 15 rfl rfl)
theorem dX1_appendInput_39 : decode cX1_appendInput 39 = .ok (.invokevirtual 87, 3) := dk_182 0 87 (dk_at dksX1_appendInput_1 17 rfl rfl)
theorem dX1_appendInput_42 : decode cX1_appendInput 42 = .ok (.aload_n 0, 1) := dk_42 (dk_at dksX1_appendInput_1 20 rfl rfl)
theorem dX1_appendInput_43 : decode cX1_appendInput 43 = .ok (.getfield 84, 3) := dk_180 0 84 (dk_at dksX1_appendInput_1 21 rfl rfl)
theorem dX1_appendInput_46 : decode cX1_appendInput 46 = .ok (.ireturn, 1) := dk_172 (dk_at dksX1_appendInput_2 0 rfl rfl)
abbrev cX1_appends : ByteArray := prog_1_method_10_code
def yX1_appends : MethodName := ⟨RX1, "appends", "(I)V"⟩
def dkwX1_appends_1 : List UInt8 := [180, 0, 84, 4, 96, 181, 0, 84, 132, 2, 248, 167, 255, 226, 177]
abbrev dktX1_appends_1 : List UInt8 := dkwX1_appends_1 ++ []
def dkwX1_appends_0 : List UInt8 := [16, 24, 61, 28, 155, 0, 32, 42, 180, 0, 28, 42, 180, 0, 84, 27, 28, 122, 145, 84, 42, 89]
abbrev dktX1_appends_0 : List UInt8 := dkwX1_appends_0 ++ dktX1_appends_1
theorem dksX1_appends_0 : cX1_appends.data.toList.drop 0 = dktX1_appends_0 := by decide +kernel
theorem dksX1_appends_1 : cX1_appends.data.toList.drop 22 = dktX1_appends_1 := dk_seg dksX1_appends_0 22 rfl rfl
theorem dX1_appends_0 : decode cX1_appends 0 = .ok (.bipush 24, 2) := dk_16 24 (dk_at dksX1_appends_0 0 rfl rfl)
theorem dX1_appends_2 : decode cX1_appends 2 = .ok (.istore_n 2, 1) := dk_61 (dk_at dksX1_appends_0 2 rfl rfl)
theorem dX1_appends_3 : decode cX1_appends 3 = .ok (.iload_n 2, 1) := dk_28 (dk_at dksX1_appends_0 3 rfl rfl)
theorem dX1_appends_4 : decode cX1_appends 4 = .ok (.ifCond .lt 32, 3) := dk_155 0 32 (dk_at dksX1_appends_0 4 rfl rfl)
theorem dX1_appends_7 : decode cX1_appends 7 = .ok (.aload_n 0, 1) := dk_42 (dk_at dksX1_appends_0 7 rfl rfl)
theorem dX1_appends_8 : decode cX1_appends 8 = .ok (.getfield 28, 3) := dk_180 0 28 (dk_at dksX1_appends_0 8 rfl rfl)
theorem dX1_appends_11 : decode cX1_appends 11 = .ok (.aload_n 0, 1) := dk_42 (dk_at dksX1_appends_0 11 rfl rfl)
theorem dX1_appends_12 : decode cX1_appends 12 = .ok (.getfield 84, 3) := dk_180 0 84 (dk_at dksX1_appends_0 12 rfl rfl)
theorem dX1_appends_15 : decode cX1_appends 15 = .ok (.iload_n 1, 1) := dk_27 (dk_at dksX1_appends_0 15 rfl rfl)
theorem dX1_appends_16 : decode cX1_appends 16 = .ok (.iload_n 2, 1) := dk_28 (dk_at dksX1_appends_0 16 rfl rfl)
theorem dX1_appends_17 : decode cX1_appends 17 = .ok (.ishr, 1) := dk_122 (dk_at dksX1_appends_0 17 rfl rfl)
theorem dX1_appends_18 : decode cX1_appends 18 = .ok (.i2b, 1) := dk_145 (dk_at dksX1_appends_0 18 rfl rfl)
theorem dX1_appends_19 : decode cX1_appends 19 = .ok (.bastore, 1) := dk_84 (dk_at dksX1_appends_0 19 rfl rfl)
theorem dX1_appends_20 : decode cX1_appends 20 = .ok (.aload_n 0, 1) := dk_42 (dk_at dksX1_appends_0 20 rfl rfl)
theorem dX1_appends_21 : decode cX1_appends 21 = .ok (.dup, 1) := dk_89 (dk_at dksX1_appends_0 21 rfl rfl)
theorem dX1_appends_22 : decode cX1_appends 22 = .ok (.getfield 84, 3) := dk_180 0 84 (dk_at dksX1_appends_1 0 rfl rfl)
theorem dX1_appends_25 : decode cX1_appends 25 = .ok (.iconst 1, 1) := dk_4 (dk_at dksX1_appends_1 3 rfl rfl)
theorem dX1_appends_26 : decode cX1_appends 26 = .ok (.iadd, 1) := dk_96 (dk_at dksX1_appends_1 4 rfl rfl)
theorem dX1_appends_27 : decode cX1_appends 27 = .ok (.putfield 84, 3) := dk_181 0 84 (dk_at dksX1_appends_1 5 rfl rfl)
theorem dX1_appends_30 : decode cX1_appends 30 = .ok (.iinc 2 (-8), 3) := dk_132 2 248 (dk_at dksX1_appends_1 8 rfl rfl)
theorem dX1_appends_33 : decode cX1_appends 33 = .ok (.goto (-30), 3) := dk_167 255 226 (dk_at dksX1_appends_1 11 rfl rfl)
theorem dX1_appends_36 : decode cX1_appends 36 = .ok (.return_, 1) := dk_177 (dk_at dksX1_appends_1 14 rfl rfl)
abbrev cX1_truncateInput : ByteArray := prog_1_method_12_code
def yX1_truncateInput : MethodName := ⟨RX1, "truncateInput", "(I)Z"⟩
def dkwX1_truncateInput_0 : List UInt8 := [27, 133, 9, 42, 180, 0, 84, 133, 184, 0, 91, 154, 0, 5, 3, 172, 42, 27, 181, 0, 84, 4, 172]
abbrev dktX1_truncateInput_0 : List UInt8 := dkwX1_truncateInput_0 ++ []
theorem dksX1_truncateInput_0 : cX1_truncateInput.data.toList.drop 0 = dktX1_truncateInput_0 := by decide +kernel
theorem dX1_truncateInput_0 : decode cX1_truncateInput 0 = .ok (.iload_n 1, 1) := dk_27 (dk_at dksX1_truncateInput_0 0 rfl rfl)
theorem dX1_truncateInput_1 : decode cX1_truncateInput 1 = .ok (.i2l, 1) := dk_133 (dk_at dksX1_truncateInput_0 1 rfl rfl)
theorem dX1_truncateInput_2 : decode cX1_truncateInput 2 = .ok (.lconst 0, 1) := dk_9 (dk_at dksX1_truncateInput_0 2 rfl rfl)
theorem dX1_truncateInput_3 : decode cX1_truncateInput 3 = .ok (.aload_n 0, 1) := dk_42 (dk_at dksX1_truncateInput_0 3 rfl rfl)
theorem dX1_truncateInput_4 : decode cX1_truncateInput 4 = .ok (.getfield 84, 3) := dk_180 0 84 (dk_at dksX1_truncateInput_0 4 rfl rfl)
theorem dX1_truncateInput_7 : decode cX1_truncateInput 7 = .ok (.i2l, 1) := dk_133 (dk_at dksX1_truncateInput_0 7 rfl rfl)
theorem dX1_truncateInput_8 : decode cX1_truncateInput 8 = .ok (.invokestatic 91, 3) := dk_184 0 91 (dk_at dksX1_truncateInput_0 8 rfl rfl)
theorem dX1_truncateInput_11 : decode cX1_truncateInput 11 = .ok (.ifCond .ne 5, 3) := dk_154 0 5 (dk_at dksX1_truncateInput_0 11 rfl rfl)
theorem dX1_truncateInput_14 : decode cX1_truncateInput 14 = .ok (.iconst 0, 1) := dk_3 (dk_at dksX1_truncateInput_0 14 rfl rfl)
theorem dX1_truncateInput_15 : decode cX1_truncateInput 15 = .ok (.ireturn, 1) := dk_172 (dk_at dksX1_truncateInput_0 15 rfl rfl)
theorem dX1_truncateInput_16 : decode cX1_truncateInput 16 = .ok (.aload_n 0, 1) := dk_42 (dk_at dksX1_truncateInput_0 16 rfl rfl)
theorem dX1_truncateInput_17 : decode cX1_truncateInput 17 = .ok (.iload_n 1, 1) := dk_27 (dk_at dksX1_truncateInput_0 17 rfl rfl)
theorem dX1_truncateInput_18 : decode cX1_truncateInput 18 = .ok (.putfield 84, 3) := dk_181 0 84 (dk_at dksX1_truncateInput_0 18 rfl rfl)
theorem dX1_truncateInput_21 : decode cX1_truncateInput 21 = .ok (.iconst 1, 1) := dk_4 (dk_at dksX1_truncateInput_0 21 rfl rfl)
theorem dX1_truncateInput_22 : decode cX1_truncateInput 22 = .ok (.ireturn, 1) := dk_172 (dk_at dksX1_truncateInput_0 22 rfl rfl)
abbrev cX1_isIn : ByteArray := prog_1_method_1_code
def yX1_isIn : MethodName := ⟨RX1, "isIn", "(JJJ)Z"⟩
def dkwX1_isIn_0 : List UInt8 := [30, 32, 148, 155, 0, 14, 30, 22, 4, 148, 157, 0, 7, 4, 167, 0, 4, 3, 172]
abbrev dktX1_isIn_0 : List UInt8 := dkwX1_isIn_0 ++ []
theorem dksX1_isIn_0 : cX1_isIn.data.toList.drop 0 = dktX1_isIn_0 := by decide +kernel
theorem dX1_isIn_0 : decode cX1_isIn 0 = .ok (.lload_n 0, 1) := dk_30 (dk_at dksX1_isIn_0 0 rfl rfl)
theorem dX1_isIn_1 : decode cX1_isIn 1 = .ok (.lload_n 2, 1) := dk_32 (dk_at dksX1_isIn_0 1 rfl rfl)
theorem dX1_isIn_2 : decode cX1_isIn 2 = .ok (.lcmp, 1) := dk_148 (dk_at dksX1_isIn_0 2 rfl rfl)
theorem dX1_isIn_3 : decode cX1_isIn 3 = .ok (.ifCond .lt 14, 3) := dk_155 0 14 (dk_at dksX1_isIn_0 3 rfl rfl)
theorem dX1_isIn_6 : decode cX1_isIn 6 = .ok (.lload_n 0, 1) := dk_30 (dk_at dksX1_isIn_0 6 rfl rfl)
theorem dX1_isIn_7 : decode cX1_isIn 7 = .ok (.lload 4, 2) := dk_22 4 (dk_at dksX1_isIn_0 7 rfl rfl)
theorem dX1_isIn_9 : decode cX1_isIn 9 = .ok (.lcmp, 1) := dk_148 (dk_at dksX1_isIn_0 9 rfl rfl)
theorem dX1_isIn_10 : decode cX1_isIn 10 = .ok (.ifCond .gt 7, 3) := dk_157 0 7 (dk_at dksX1_isIn_0 10 rfl rfl)
theorem dX1_isIn_13 : decode cX1_isIn 13 = .ok (.iconst 1, 1) := dk_4 (dk_at dksX1_isIn_0 13 rfl rfl)
theorem dX1_isIn_14 : decode cX1_isIn 14 = .ok (.goto 4, 3) := dk_167 0 4 (dk_at dksX1_isIn_0 14 rfl rfl)
theorem dX1_isIn_17 : decode cX1_isIn 17 = .ok (.iconst 0, 1) := dk_3 (dk_at dksX1_isIn_0 17 rfl rfl)
theorem dX1_isIn_18 : decode cX1_isIn 18 = .ok (.ireturn, 1) := dk_172 (dk_at dksX1_isIn_0 18 rfl rfl)
abbrev cX1_loadLoop : ByteArray := prog_1_method_15_code
def yX1_loadLoop : MethodName := ⟨RX1, "loadLoop", "()I"⟩
def dkwX1_loadLoop_3 : List UInt8 := [3, 181, 0, 84, 28, 172, 78, 42, 3, 181, 0, 84, 45, 191]
abbrev dktX1_loadLoop_3 : List UInt8 := dkwX1_loadLoop_3 ++ []
def dkwX1_loadLoop_2 : List UInt8 := [180, 0, 69, 185, 0, 123, 1, 0, 60, 42, 3, 181, 0, 84, 27, 172, 76, 42, 43, 182, 0, 127, 61, 42]
abbrev dktX1_loadLoop_2 : List UInt8 := dkwX1_loadLoop_2 ++ dktX1_loadLoop_3
def dkwX1_loadLoop_1 : List UInt8 := [182, 0, 54, 181, 0, 59, 42, 180, 0, 39, 182, 0, 117, 42, 1, 181, 0, 120, 42, 180, 0, 50]
abbrev dktX1_loadLoop_1 : List UInt8 := dkwX1_loadLoop_1 ++ dktX1_loadLoop_2
def dkwX1_loadLoop_0 : List UInt8 := [42, 182, 0, 106, 42, 187, 0, 109, 89, 42, 183, 0, 111, 182, 0, 114, 181, 0, 50, 42, 42, 180, 0, 50]
abbrev dktX1_loadLoop_0 : List UInt8 := dkwX1_loadLoop_0 ++ dktX1_loadLoop_1
theorem dksX1_loadLoop_0 : cX1_loadLoop.data.toList.drop 0 = dktX1_loadLoop_0 := by decide +kernel
theorem dksX1_loadLoop_1 : cX1_loadLoop.data.toList.drop 24 = dktX1_loadLoop_1 := dk_seg dksX1_loadLoop_0 24 rfl rfl
theorem dksX1_loadLoop_2 : cX1_loadLoop.data.toList.drop 46 = dktX1_loadLoop_2 := dk_seg dksX1_loadLoop_1 22 rfl rfl
theorem dksX1_loadLoop_3 : cX1_loadLoop.data.toList.drop 70 = dktX1_loadLoop_3 := dk_seg dksX1_loadLoop_2 24 rfl rfl
theorem dX1_loadLoop_0 : decode cX1_loadLoop 0 = .ok (.aload_n 0, 1) := dk_42 (dk_at dksX1_loadLoop_0 0 rfl rfl)
theorem dX1_loadLoop_1 : decode cX1_loadLoop 1 = .ok (.invokevirtual 106, 3) := dk_182 0 106 (dk_at dksX1_loadLoop_0 1 rfl rfl)
theorem dX1_loadLoop_4 : decode cX1_loadLoop 4 = .ok (.aload_n 0, 1) := dk_42 (dk_at dksX1_loadLoop_0 4 rfl rfl)
theorem dX1_loadLoop_5 : decode cX1_loadLoop 5 = .ok (.new 109, 3) := dk_187 0 109 (dk_at dksX1_loadLoop_0 5 rfl rfl)
theorem dX1_loadLoop_8 : decode cX1_loadLoop 8 = .ok (.dup, 1) := dk_89 (dk_at dksX1_loadLoop_0 8 rfl rfl)
theorem dX1_loadLoop_9 : decode cX1_loadLoop 9 = .ok (.aload_n 0, 1) := dk_42 (dk_at dksX1_loadLoop_0 9 rfl rfl)
theorem dX1_loadLoop_10 : decode cX1_loadLoop 10 = .ok (.invokespecial 111, 3) := dk_183 0 111 (dk_at dksX1_loadLoop_0 10 rfl rfl)
theorem dX1_loadLoop_13 : decode cX1_loadLoop 13 = .ok (.invokevirtual 114, 3) := dk_182 0 114 (dk_at dksX1_loadLoop_0 13 rfl rfl)
theorem dX1_loadLoop_16 : decode cX1_loadLoop 16 = .ok (.putfield 50, 3) := dk_181 0 50 (dk_at dksX1_loadLoop_0 16 rfl rfl)
theorem dX1_loadLoop_19 : decode cX1_loadLoop 19 = .ok (.aload_n 0, 1) := dk_42 (dk_at dksX1_loadLoop_0 19 rfl rfl)
theorem dX1_loadLoop_20 : decode cX1_loadLoop 20 = .ok (.aload_n 0, 1) := dk_42 (dk_at dksX1_loadLoop_0 20 rfl rfl)
theorem dX1_loadLoop_21 : decode cX1_loadLoop 21 = .ok (.getfield 50, 3) := dk_180 0 50 (dk_at dksX1_loadLoop_0 21 rfl rfl)
theorem dX1_loadLoop_24 : decode cX1_loadLoop 24 = .ok (.invokevirtual 54, 3) := dk_182 0 54 (dk_at dksX1_loadLoop_1 0 rfl rfl)
theorem dX1_loadLoop_27 : decode cX1_loadLoop 27 = .ok (.putfield 59, 3) := dk_181 0 59 (dk_at dksX1_loadLoop_1 3 rfl rfl)
theorem dX1_loadLoop_30 : decode cX1_loadLoop 30 = .ok (.aload_n 0, 1) := dk_42 (dk_at dksX1_loadLoop_1 6 rfl rfl)
theorem dX1_loadLoop_31 : decode cX1_loadLoop 31 = .ok (.getfield 39, 3) := dk_180 0 39 (dk_at dksX1_loadLoop_1 7 rfl rfl)
theorem dX1_loadLoop_34 : decode cX1_loadLoop 34 = .ok (.invokevirtual 117, 3) := dk_182 0 117 (dk_at dksX1_loadLoop_1 10 rfl rfl)
theorem dX1_loadLoop_37 : decode cX1_loadLoop 37 = .ok (.aload_n 0, 1) := dk_42 (dk_at dksX1_loadLoop_1 13 rfl rfl)
theorem dX1_loadLoop_38 : decode cX1_loadLoop 38 = .ok (.aconst_null, 1) := dk_1 (dk_at dksX1_loadLoop_1 14 rfl rfl)
theorem dX1_loadLoop_39 : decode cX1_loadLoop 39 = .ok (.putfield 120, 3) := dk_181 0 120 (dk_at dksX1_loadLoop_1 15 rfl rfl)
theorem dX1_loadLoop_42 : decode cX1_loadLoop 42 = .ok (.aload_n 0, 1) := dk_42 (dk_at dksX1_loadLoop_1 18 rfl rfl)
theorem dX1_loadLoop_43 : decode cX1_loadLoop 43 = .ok (.getfield 50, 3) := dk_180 0 50 (dk_at dksX1_loadLoop_1 19 rfl rfl)
theorem dX1_loadLoop_46 : decode cX1_loadLoop 46 = .ok (.getfield 69, 3) := dk_180 0 69 (dk_at dksX1_loadLoop_2 0 rfl rfl)
theorem dX1_loadLoop_49 : decode cX1_loadLoop 49 = .ok (.invokeinterface 123 1, 5) := by decide +kernel
theorem dX1_loadLoop_54 : decode cX1_loadLoop 54 = .ok (.istore_n 1, 1) := dk_60 (dk_at dksX1_loadLoop_2 8 rfl rfl)
theorem dX1_loadLoop_55 : decode cX1_loadLoop 55 = .ok (.aload_n 0, 1) := dk_42 (dk_at dksX1_loadLoop_2 9 rfl rfl)
theorem dX1_loadLoop_56 : decode cX1_loadLoop 56 = .ok (.iconst 0, 1) := dk_3 (dk_at dksX1_loadLoop_2 10 rfl rfl)
theorem dX1_loadLoop_57 : decode cX1_loadLoop 57 = .ok (.putfield 84, 3) := dk_181 0 84 (dk_at dksX1_loadLoop_2 11 rfl rfl)
theorem dX1_loadLoop_60 : decode cX1_loadLoop 60 = .ok (.iload_n 1, 1) := dk_27 (dk_at dksX1_loadLoop_2 14 rfl rfl)
theorem dX1_loadLoop_61 : decode cX1_loadLoop 61 = .ok (.ireturn, 1) := dk_172 (dk_at dksX1_loadLoop_2 15 rfl rfl)
theorem dX1_loadLoop_62 : decode cX1_loadLoop 62 = .ok (.astore_n 1, 1) := dk_76 (dk_at dksX1_loadLoop_2 16 rfl rfl)
theorem dX1_loadLoop_63 : decode cX1_loadLoop 63 = .ok (.aload_n 0, 1) := dk_42 (dk_at dksX1_loadLoop_2 17 rfl rfl)
theorem dX1_loadLoop_64 : decode cX1_loadLoop 64 = .ok (.aload_n 1, 1) := dk_43 (dk_at dksX1_loadLoop_2 18 rfl rfl)
theorem dX1_loadLoop_65 : decode cX1_loadLoop 65 = .ok (.invokevirtual 127, 3) := dk_182 0 127 (dk_at dksX1_loadLoop_2 19 rfl rfl)
theorem dX1_loadLoop_68 : decode cX1_loadLoop 68 = .ok (.istore_n 2, 1) := dk_61 (dk_at dksX1_loadLoop_2 22 rfl rfl)
theorem dX1_loadLoop_69 : decode cX1_loadLoop 69 = .ok (.aload_n 0, 1) := dk_42 (dk_at dksX1_loadLoop_2 23 rfl rfl)
theorem dX1_loadLoop_70 : decode cX1_loadLoop 70 = .ok (.iconst 0, 1) := dk_3 (dk_at dksX1_loadLoop_3 0 rfl rfl)
theorem dX1_loadLoop_71 : decode cX1_loadLoop 71 = .ok (.putfield 84, 3) := dk_181 0 84 (dk_at dksX1_loadLoop_3 1 rfl rfl)
theorem dX1_loadLoop_74 : decode cX1_loadLoop 74 = .ok (.iload_n 2, 1) := dk_28 (dk_at dksX1_loadLoop_3 4 rfl rfl)
theorem dX1_loadLoop_75 : decode cX1_loadLoop 75 = .ok (.ireturn, 1) := dk_172 (dk_at dksX1_loadLoop_3 5 rfl rfl)
theorem dX1_loadLoop_76 : decode cX1_loadLoop 76 = .ok (.astore_n 3, 1) := dk_78 (dk_at dksX1_loadLoop_3 6 rfl rfl)
theorem dX1_loadLoop_77 : decode cX1_loadLoop 77 = .ok (.aload_n 0, 1) := dk_42 (dk_at dksX1_loadLoop_3 7 rfl rfl)
theorem dX1_loadLoop_78 : decode cX1_loadLoop 78 = .ok (.iconst 0, 1) := dk_3 (dk_at dksX1_loadLoop_3 8 rfl rfl)
theorem dX1_loadLoop_79 : decode cX1_loadLoop 79 = .ok (.putfield 84, 3) := dk_181 0 84 (dk_at dksX1_loadLoop_3 9 rfl rfl)
theorem dX1_loadLoop_82 : decode cX1_loadLoop 82 = .ok (.aload_n 3, 1) := dk_45 (dk_at dksX1_loadLoop_3 12 rfl rfl)
theorem dX1_loadLoop_83 : decode cX1_loadLoop 83 = .ok (.athrow, 1) := dk_191 (dk_at dksX1_loadLoop_3 13 rfl rfl)
abbrev cX1_startsText : ByteArray := prog_1_method_13_code
def yX1_startsText : MethodName := ⟨RX1, "startsText", "()V"⟩
def dkwX1_startsText_0 : List UInt8 := [42, 3, 181, 0, 95, 42, 2, 181, 0, 32, 177]
abbrev dktX1_startsText_0 : List UInt8 := dkwX1_startsText_0 ++ []
theorem dksX1_startsText_0 : cX1_startsText.data.toList.drop 0 = dktX1_startsText_0 := by decide +kernel
theorem dX1_startsText_0 : decode cX1_startsText 0 = .ok (.aload_n 0, 1) := dk_42 (dk_at dksX1_startsText_0 0 rfl rfl)
theorem dX1_startsText_1 : decode cX1_startsText 1 = .ok (.iconst 0, 1) := dk_3 (dk_at dksX1_startsText_0 1 rfl rfl)
theorem dX1_startsText_2 : decode cX1_startsText 2 = .ok (.putfield 95, 3) := dk_181 0 95 (dk_at dksX1_startsText_0 2 rfl rfl)
theorem dX1_startsText_5 : decode cX1_startsText 5 = .ok (.aload_n 0, 1) := dk_42 (dk_at dksX1_startsText_0 5 rfl rfl)
theorem dX1_startsText_6 : decode cX1_startsText 6 = .ok (.iconst (-1), 1) := dk_2 (dk_at dksX1_startsText_0 6 rfl rfl)
theorem dX1_startsText_7 : decode cX1_startsText 7 = .ok (.putfield 32, 3) := dk_181 0 32 (dk_at dksX1_startsText_0 7 rfl rfl)
theorem dX1_startsText_10 : decode cX1_startsText 10 = .ok (.return_, 1) := dk_177 (dk_at dksX1_startsText_0 10 rfl rfl)
abbrev cX1_bit : ByteArray := prog_1_method_6_code
def yX1_bit : MethodName := ⟨RX1, "bit", "(Z)I"⟩
def dkwX1_bit_0 : List UInt8 := [26, 153, 0, 7, 4, 167, 0, 4, 3, 172]
abbrev dktX1_bit_0 : List UInt8 := dkwX1_bit_0 ++ []
theorem dksX1_bit_0 : cX1_bit.data.toList.drop 0 = dktX1_bit_0 := by decide +kernel
theorem dX1_bit_0 : decode cX1_bit 0 = .ok (.iload_n 0, 1) := dk_26 (dk_at dksX1_bit_0 0 rfl rfl)
theorem dX1_bit_1 : decode cX1_bit 1 = .ok (.ifCond .eq 7, 3) := dk_153 0 7 (dk_at dksX1_bit_0 1 rfl rfl)
theorem dX1_bit_4 : decode cX1_bit 4 = .ok (.iconst 1, 1) := dk_4 (dk_at dksX1_bit_0 4 rfl rfl)
theorem dX1_bit_5 : decode cX1_bit 5 = .ok (.goto 4, 3) := dk_167 0 4 (dk_at dksX1_bit_0 5 rfl rfl)
theorem dX1_bit_8 : decode cX1_bit 8 = .ok (.iconst 0, 1) := dk_3 (dk_at dksX1_bit_0 8 rfl rfl)
theorem dX1_bit_9 : decode cX1_bit 9 = .ok (.ireturn, 1) := dk_172 (dk_at dksX1_bit_0 9 rfl rfl)
abbrev cX1_fails : ByteArray := prog_1_method_14_code
def yX1_fails : MethodName := ⟨RX1, "fails", "(LSortingLoop$ParseException;)I"⟩
def dkwX1_fails_0 : List UInt8 := [42, 43, 180, 0, 98, 181, 0, 95, 42, 43, 180, 0, 103, 181, 0, 32, 2, 172]
abbrev dktX1_fails_0 : List UInt8 := dkwX1_fails_0 ++ []
theorem dksX1_fails_0 : cX1_fails.data.toList.drop 0 = dktX1_fails_0 := by decide +kernel
theorem dX1_fails_0 : decode cX1_fails 0 = .ok (.aload_n 0, 1) := dk_42 (dk_at dksX1_fails_0 0 rfl rfl)
theorem dX1_fails_1 : decode cX1_fails 1 = .ok (.aload_n 1, 1) := dk_43 (dk_at dksX1_fails_0 1 rfl rfl)
theorem dX1_fails_2 : decode cX1_fails 2 = .ok (.getfield 98, 3) := dk_180 0 98 (dk_at dksX1_fails_0 2 rfl rfl)
theorem dX1_fails_5 : decode cX1_fails 5 = .ok (.putfield 95, 3) := dk_181 0 95 (dk_at dksX1_fails_0 5 rfl rfl)
theorem dX1_fails_8 : decode cX1_fails 8 = .ok (.aload_n 0, 1) := dk_42 (dk_at dksX1_fails_0 8 rfl rfl)
theorem dX1_fails_9 : decode cX1_fails 9 = .ok (.aload_n 1, 1) := dk_43 (dk_at dksX1_fails_0 9 rfl rfl)
theorem dX1_fails_10 : decode cX1_fails 10 = .ok (.getfield 103, 3) := dk_180 0 103 (dk_at dksX1_fails_0 10 rfl rfl)
theorem dX1_fails_13 : decode cX1_fails 13 = .ok (.putfield 32, 3) := dk_181 0 32 (dk_at dksX1_fails_0 13 rfl rfl)
theorem dX1_fails_16 : decode cX1_fails 16 = .ok (.iconst (-1), 1) := dk_2 (dk_at dksX1_fails_0 16 rfl rfl)
theorem dX1_fails_17 : decode cX1_fails 17 = .ok (.ireturn, 1) := dk_172 (dk_at dksX1_fails_0 17 rfl rfl)
abbrev cX1_playScript : ByteArray := prog_1_method_16_code
def yX1_playScript : MethodName := ⟨RX1, "playScript", "()I"⟩
def dkwX1_playScript_2 : List UInt8 := [181, 0, 84, 45, 191]
abbrev dktX1_playScript_2 : List UInt8 := dkwX1_playScript_2 ++ []
def dkwX1_playScript_1 : List UInt8 := [181, 0, 84, 27, 172, 76, 42, 43, 182, 0, 127, 61, 42, 3, 181, 0, 84, 28, 172, 78, 42, 3]
abbrev dktX1_playScript_1 : List UInt8 := dkwX1_playScript_1 ++ dktX1_playScript_2
def dkwX1_playScript_0 : List UInt8 := [42, 182, 0, 106, 42, 187, 0, 131, 89, 42, 183, 0, 133, 182, 0, 134, 182, 0, 137, 60, 42, 3]
abbrev dktX1_playScript_0 : List UInt8 := dkwX1_playScript_0 ++ dktX1_playScript_1
theorem dksX1_playScript_0 : cX1_playScript.data.toList.drop 0 = dktX1_playScript_0 := by decide +kernel
theorem dksX1_playScript_1 : cX1_playScript.data.toList.drop 22 = dktX1_playScript_1 := dk_seg dksX1_playScript_0 22 rfl rfl
theorem dksX1_playScript_2 : cX1_playScript.data.toList.drop 44 = dktX1_playScript_2 := dk_seg dksX1_playScript_1 22 rfl rfl
theorem dX1_playScript_0 : decode cX1_playScript 0 = .ok (.aload_n 0, 1) := dk_42 (dk_at dksX1_playScript_0 0 rfl rfl)
theorem dX1_playScript_1 : decode cX1_playScript 1 = .ok (.invokevirtual 106, 3) := dk_182 0 106 (dk_at dksX1_playScript_0 1 rfl rfl)
theorem dX1_playScript_4 : decode cX1_playScript 4 = .ok (.aload_n 0, 1) := dk_42 (dk_at dksX1_playScript_0 4 rfl rfl)
theorem dX1_playScript_5 : decode cX1_playScript 5 = .ok (.new 131, 3) := dk_187 0 131 (dk_at dksX1_playScript_0 5 rfl rfl)
theorem dX1_playScript_8 : decode cX1_playScript 8 = .ok (.dup, 1) := dk_89 (dk_at dksX1_playScript_0 8 rfl rfl)
theorem dX1_playScript_9 : decode cX1_playScript 9 = .ok (.aload_n 0, 1) := dk_42 (dk_at dksX1_playScript_0 9 rfl rfl)
theorem dX1_playScript_10 : decode cX1_playScript 10 = .ok (.invokespecial 133, 3) := dk_183 0 133 (dk_at dksX1_playScript_0 10 rfl rfl)
theorem dX1_playScript_13 : decode cX1_playScript 13 = .ok (.invokevirtual 134, 3) := dk_182 0 134 (dk_at dksX1_playScript_0 13 rfl rfl)
theorem dX1_playScript_16 : decode cX1_playScript 16 = .ok (.invokevirtual 137, 3) := dk_182 0 137 (dk_at dksX1_playScript_0 16 rfl rfl)
theorem dX1_playScript_19 : decode cX1_playScript 19 = .ok (.istore_n 1, 1) := dk_60 (dk_at dksX1_playScript_0 19 rfl rfl)
theorem dX1_playScript_20 : decode cX1_playScript 20 = .ok (.aload_n 0, 1) := dk_42 (dk_at dksX1_playScript_0 20 rfl rfl)
theorem dX1_playScript_21 : decode cX1_playScript 21 = .ok (.iconst 0, 1) := dk_3 (dk_at dksX1_playScript_0 21 rfl rfl)
theorem dX1_playScript_22 : decode cX1_playScript 22 = .ok (.putfield 84, 3) := dk_181 0 84 (dk_at dksX1_playScript_1 0 rfl rfl)
theorem dX1_playScript_25 : decode cX1_playScript 25 = .ok (.iload_n 1, 1) := dk_27 (dk_at dksX1_playScript_1 3 rfl rfl)
theorem dX1_playScript_26 : decode cX1_playScript 26 = .ok (.ireturn, 1) := dk_172 (dk_at dksX1_playScript_1 4 rfl rfl)
theorem dX1_playScript_27 : decode cX1_playScript 27 = .ok (.astore_n 1, 1) := dk_76 (dk_at dksX1_playScript_1 5 rfl rfl)
theorem dX1_playScript_28 : decode cX1_playScript 28 = .ok (.aload_n 0, 1) := dk_42 (dk_at dksX1_playScript_1 6 rfl rfl)
theorem dX1_playScript_29 : decode cX1_playScript 29 = .ok (.aload_n 1, 1) := dk_43 (dk_at dksX1_playScript_1 7 rfl rfl)
theorem dX1_playScript_30 : decode cX1_playScript 30 = .ok (.invokevirtual 127, 3) := dk_182 0 127 (dk_at dksX1_playScript_1 8 rfl rfl)
theorem dX1_playScript_33 : decode cX1_playScript 33 = .ok (.istore_n 2, 1) := dk_61 (dk_at dksX1_playScript_1 11 rfl rfl)
theorem dX1_playScript_34 : decode cX1_playScript 34 = .ok (.aload_n 0, 1) := dk_42 (dk_at dksX1_playScript_1 12 rfl rfl)
theorem dX1_playScript_35 : decode cX1_playScript 35 = .ok (.iconst 0, 1) := dk_3 (dk_at dksX1_playScript_1 13 rfl rfl)
theorem dX1_playScript_36 : decode cX1_playScript 36 = .ok (.putfield 84, 3) := dk_181 0 84 (dk_at dksX1_playScript_1 14 rfl rfl)
theorem dX1_playScript_39 : decode cX1_playScript 39 = .ok (.iload_n 2, 1) := dk_28 (dk_at dksX1_playScript_1 17 rfl rfl)
theorem dX1_playScript_40 : decode cX1_playScript 40 = .ok (.ireturn, 1) := dk_172 (dk_at dksX1_playScript_1 18 rfl rfl)
theorem dX1_playScript_41 : decode cX1_playScript 41 = .ok (.astore_n 3, 1) := dk_78 (dk_at dksX1_playScript_1 19 rfl rfl)
theorem dX1_playScript_42 : decode cX1_playScript 42 = .ok (.aload_n 0, 1) := dk_42 (dk_at dksX1_playScript_1 20 rfl rfl)
theorem dX1_playScript_43 : decode cX1_playScript 43 = .ok (.iconst 0, 1) := dk_3 (dk_at dksX1_playScript_1 21 rfl rfl)
theorem dX1_playScript_44 : decode cX1_playScript 44 = .ok (.putfield 84, 3) := dk_181 0 84 (dk_at dksX1_playScript_2 0 rfl rfl)
theorem dX1_playScript_47 : decode cX1_playScript 47 = .ok (.aload_n 3, 1) := dk_45 (dk_at dksX1_playScript_2 3 rfl rfl)
theorem dX1_playScript_48 : decode cX1_playScript 48 = .ok (.athrow, 1) := dk_191 (dk_at dksX1_playScript_2 4 rfl rfl)
abbrev cX1_plays : ByteArray := prog_1_method_17_code
def yX1_plays : MethodName := ⟨RX1, "plays", "(Ljava/util/List;)I"⟩
def dkwX1_plays_1 : List UInt8 := [192, 0, 148, 44, 182, 0, 150, 153, 0, 9, 132, 3, 1, 167, 255, 226, 29, 172]
abbrev dktX1_plays_1 : List UInt8 := dkwX1_plays_1 ++ []
def dkwX1_plays_0 : List UInt8 := [42, 182, 0, 141, 77, 3, 62, 29, 43, 185, 0, 123, 1, 0, 162, 0, 26, 43, 29, 185, 0, 144, 2, 0]
abbrev dktX1_plays_0 : List UInt8 := dkwX1_plays_0 ++ dktX1_plays_1
theorem dksX1_plays_0 : cX1_plays.data.toList.drop 0 = dktX1_plays_0 := by decide +kernel
theorem dksX1_plays_1 : cX1_plays.data.toList.drop 24 = dktX1_plays_1 := dk_seg dksX1_plays_0 24 rfl rfl
theorem dX1_plays_0 : decode cX1_plays 0 = .ok (.aload_n 0, 1) := dk_42 (dk_at dksX1_plays_0 0 rfl rfl)
theorem dX1_plays_1 : decode cX1_plays 1 = .ok (.invokevirtual 141, 3) := dk_182 0 141 (dk_at dksX1_plays_0 1 rfl rfl)
theorem dX1_plays_4 : decode cX1_plays 4 = .ok (.astore_n 2, 1) := dk_77 (dk_at dksX1_plays_0 4 rfl rfl)
theorem dX1_plays_5 : decode cX1_plays 5 = .ok (.iconst 0, 1) := dk_3 (dk_at dksX1_plays_0 5 rfl rfl)
theorem dX1_plays_6 : decode cX1_plays 6 = .ok (.istore_n 3, 1) := dk_62 (dk_at dksX1_plays_0 6 rfl rfl)
theorem dX1_plays_7 : decode cX1_plays 7 = .ok (.iload_n 3, 1) := dk_29 (dk_at dksX1_plays_0 7 rfl rfl)
theorem dX1_plays_8 : decode cX1_plays 8 = .ok (.aload_n 1, 1) := dk_43 (dk_at dksX1_plays_0 8 rfl rfl)
theorem dX1_plays_9 : decode cX1_plays 9 = .ok (.invokeinterface 123 1, 5) := by decide +kernel
theorem dX1_plays_14 : decode cX1_plays 14 = .ok (.if_icmp .ge 26, 3) := dk_162 0 26 (dk_at dksX1_plays_0 14 rfl rfl)
theorem dX1_plays_17 : decode cX1_plays 17 = .ok (.aload_n 1, 1) := dk_43 (dk_at dksX1_plays_0 17 rfl rfl)
theorem dX1_plays_18 : decode cX1_plays 18 = .ok (.iload_n 3, 1) := dk_29 (dk_at dksX1_plays_0 18 rfl rfl)
theorem dX1_plays_19 : decode cX1_plays 19 = .ok (.invokeinterface 144 2, 5) := by decide +kernel
theorem dX1_plays_24 : decode cX1_plays 24 = .ok (.checkcast 148, 3) := dk_192 0 148 (dk_at dksX1_plays_1 0 rfl rfl)
theorem dX1_plays_27 : decode cX1_plays 27 = .ok (.aload_n 2, 1) := dk_44 (dk_at dksX1_plays_1 3 rfl rfl)
theorem dX1_plays_28 : decode cX1_plays 28 = .ok (.invokevirtual 150, 3) := dk_182 0 150 (dk_at dksX1_plays_1 4 rfl rfl)
theorem dX1_plays_31 : decode cX1_plays 31 = .ok (.ifCond .eq 9, 3) := dk_153 0 9 (dk_at dksX1_plays_1 7 rfl rfl)
theorem dX1_plays_34 : decode cX1_plays 34 = .ok (.iinc 3 1, 3) := dk_132 3 1 (dk_at dksX1_plays_1 10 rfl rfl)
theorem dX1_plays_37 : decode cX1_plays 37 = .ok (.goto (-30), 3) := dk_167 255 226 (dk_at dksX1_plays_1 13 rfl rfl)
theorem dX1_plays_40 : decode cX1_plays 40 = .ok (.iload_n 3, 1) := dk_29 (dk_at dksX1_plays_1 16 rfl rfl)
theorem dX1_plays_41 : decode cX1_plays 41 = .ok (.ireturn, 1) := dk_172 (dk_at dksX1_plays_1 17 rfl rfl)
abbrev cX1_changed : ByteArray := prog_1_method_62_code
def yX1_changed : MethodName := ⟨RX1, "changed", "()LSortingLoop$Loop;"⟩
def dkwX1_changed_1 : List UInt8 := [42, 180, 0, 50, 182, 1, 151, 42, 42, 180, 0, 50, 182, 0, 54, 181, 0, 50, 42, 180, 0, 50, 176]
abbrev dktX1_changed_1 : List UInt8 := dkwX1_changed_1 ++ []
def dkwX1_changed_0 : List UInt8 := [42, 180, 0, 39, 182, 0, 203, 16, 8, 160, 0, 11, 42, 180, 0, 39, 182, 1, 147, 87, 42, 180, 0, 39]
abbrev dktX1_changed_0 : List UInt8 := dkwX1_changed_0 ++ dktX1_changed_1
theorem dksX1_changed_0 : cX1_changed.data.toList.drop 0 = dktX1_changed_0 := by decide +kernel
theorem dksX1_changed_1 : cX1_changed.data.toList.drop 24 = dktX1_changed_1 := dk_seg dksX1_changed_0 24 rfl rfl
theorem dX1_changed_0 : decode cX1_changed 0 = .ok (.aload_n 0, 1) := dk_42 (dk_at dksX1_changed_0 0 rfl rfl)
theorem dX1_changed_1 : decode cX1_changed 1 = .ok (.getfield 39, 3) := dk_180 0 39 (dk_at dksX1_changed_0 1 rfl rfl)
theorem dX1_changed_4 : decode cX1_changed 4 = .ok (.invokevirtual 203, 3) := dk_182 0 203 (dk_at dksX1_changed_0 4 rfl rfl)
theorem dX1_changed_7 : decode cX1_changed 7 = .ok (.bipush 8, 2) := dk_16 8 (dk_at dksX1_changed_0 7 rfl rfl)
theorem dX1_changed_9 : decode cX1_changed 9 = .ok (.if_icmp .ne 11, 3) := dk_160 0 11 (dk_at dksX1_changed_0 9 rfl rfl)
theorem dX1_changed_12 : decode cX1_changed 12 = .ok (.aload_n 0, 1) := dk_42 (dk_at dksX1_changed_0 12 rfl rfl)
theorem dX1_changed_13 : decode cX1_changed 13 = .ok (.getfield 39, 3) := dk_180 0 39 (dk_at dksX1_changed_0 13 rfl rfl)
theorem dX1_changed_16 : decode cX1_changed 16 = .ok (.invokevirtual 403, 3) := dk_182 1 147 (dk_at dksX1_changed_0 16 rfl rfl)
theorem dX1_changed_19 : decode cX1_changed 19 = .ok (.pop, 1) := dk_87 (dk_at dksX1_changed_0 19 rfl rfl)
theorem dX1_changed_20 : decode cX1_changed 20 = .ok (.aload_n 0, 1) := dk_42 (dk_at dksX1_changed_0 20 rfl rfl)
theorem dX1_changed_21 : decode cX1_changed 21 = .ok (.getfield 39, 3) := dk_180 0 39 (dk_at dksX1_changed_0 21 rfl rfl)
theorem dX1_changed_24 : decode cX1_changed 24 = .ok (.aload_n 0, 1) := dk_42 (dk_at dksX1_changed_1 0 rfl rfl)
theorem dX1_changed_25 : decode cX1_changed 25 = .ok (.getfield 50, 3) := dk_180 0 50 (dk_at dksX1_changed_1 1 rfl rfl)
theorem dX1_changed_28 : decode cX1_changed 28 = .ok (.invokevirtual 407, 3) := dk_182 1 151 (dk_at dksX1_changed_1 4 rfl rfl)
theorem dX1_changed_31 : decode cX1_changed 31 = .ok (.aload_n 0, 1) := dk_42 (dk_at dksX1_changed_1 7 rfl rfl)
theorem dX1_changed_32 : decode cX1_changed 32 = .ok (.aload_n 0, 1) := dk_42 (dk_at dksX1_changed_1 8 rfl rfl)
theorem dX1_changed_33 : decode cX1_changed 33 = .ok (.getfield 50, 3) := dk_180 0 50 (dk_at dksX1_changed_1 9 rfl rfl)
theorem dX1_changed_36 : decode cX1_changed 36 = .ok (.invokevirtual 54, 3) := dk_182 0 54 (dk_at dksX1_changed_1 12 rfl rfl)
theorem dX1_changed_39 : decode cX1_changed 39 = .ok (.putfield 50, 3) := dk_181 0 50 (dk_at dksX1_changed_1 15 rfl rfl)
theorem dX1_changed_42 : decode cX1_changed 42 = .ok (.aload_n 0, 1) := dk_42 (dk_at dksX1_changed_1 18 rfl rfl)
theorem dX1_changed_43 : decode cX1_changed 43 = .ok (.getfield 50, 3) := dk_180 0 50 (dk_at dksX1_changed_1 19 rfl rfl)
theorem dX1_changed_46 : decode cX1_changed 46 = .ok (.areturn, 1) := dk_176 (dk_at dksX1_changed_1 22 rfl rfl)
abbrev cX1_errorCode : ByteArray := prog_1_method_18_code
def yX1_errorCode : MethodName := ⟨RX1, "errorCode", "()I"⟩
theorem dX1_errorCode_0 : decode cX1_errorCode 0 = .ok (.aload_n 0, 1) := by decide +kernel
theorem dX1_errorCode_1 : decode cX1_errorCode 1 = .ok (.getfield 95, 3) := by decide +kernel
theorem dX1_errorCode_4 : decode cX1_errorCode 4 = .ok (.ireturn, 1) := by decide +kernel
abbrev cX1_errorOffset : ByteArray := prog_1_method_19_code
def yX1_errorOffset : MethodName := ⟨RX1, "errorOffset", "()I"⟩
theorem dX1_errorOffset_0 : decode cX1_errorOffset 0 = .ok (.aload_n 0, 1) := by decide +kernel
theorem dX1_errorOffset_1 : decode cX1_errorOffset 1 = .ok (.getfield 32, 3) := by decide +kernel
theorem dX1_errorOffset_4 : decode cX1_errorOffset 4 = .ok (.ireturn, 1) := by decide +kernel
abbrev cX1_whyNoPut : ByteArray := prog_1_method_42_code
def yX1_whyNoPut : MethodName := ⟨RX1, "whyNoPut", "()I"⟩
def dkwX1_whyNoPut_0 : List UInt8 := [42, 180, 0, 50, 182, 1, 83, 172]
abbrev dktX1_whyNoPut_0 : List UInt8 := dkwX1_whyNoPut_0 ++ []
theorem dksX1_whyNoPut_0 : cX1_whyNoPut.data.toList.drop 0 = dktX1_whyNoPut_0 := by decide +kernel
theorem dX1_whyNoPut_0 : decode cX1_whyNoPut 0 = .ok (.aload_n 0, 1) := dk_42 (dk_at dksX1_whyNoPut_0 0 rfl rfl)
theorem dX1_whyNoPut_1 : decode cX1_whyNoPut 1 = .ok (.getfield 50, 3) := dk_180 0 50 (dk_at dksX1_whyNoPut_0 1 rfl rfl)
theorem dX1_whyNoPut_4 : decode cX1_whyNoPut 4 = .ok (.invokevirtual 339, 3) := dk_182 1 83 (dk_at dksX1_whyNoPut_0 4 rfl rfl)
theorem dX1_whyNoPut_7 : decode cX1_whyNoPut 7 = .ok (.ireturn, 1) := dk_172 (dk_at dksX1_whyNoPut_0 7 rfl rfl)
abbrev cX1_clearIn : ByteArray := prog_1_method_55_code
def yX1_clearIn : MethodName := ⟨RX1, "clearIn", "()I"⟩
def dkwX1_clearIn_1 : List UInt8 := [43, 182, 1, 98, 62, 132, 2, 1, 167, 255, 231, 2, 172]
abbrev dktX1_clearIn_1 : List UInt8 := dkwX1_clearIn_1 ++ []
def dkwX1_clearIn_0 : List UInt8 := [42, 182, 1, 95, 76, 3, 61, 28, 17, 1, 244, 163, 0, 24, 43, 3, 182, 0, 193, 154, 0, 5, 28, 172]
abbrev dktX1_clearIn_0 : List UInt8 := dkwX1_clearIn_0 ++ dktX1_clearIn_1
theorem dksX1_clearIn_0 : cX1_clearIn.data.toList.drop 0 = dktX1_clearIn_0 := by decide +kernel
theorem dksX1_clearIn_1 : cX1_clearIn.data.toList.drop 24 = dktX1_clearIn_1 := dk_seg dksX1_clearIn_0 24 rfl rfl
theorem dX1_clearIn_0 : decode cX1_clearIn 0 = .ok (.aload_n 0, 1) := dk_42 (dk_at dksX1_clearIn_0 0 rfl rfl)
theorem dX1_clearIn_1 : decode cX1_clearIn 1 = .ok (.invokevirtual 351, 3) := dk_182 1 95 (dk_at dksX1_clearIn_0 1 rfl rfl)
theorem dX1_clearIn_4 : decode cX1_clearIn 4 = .ok (.astore_n 1, 1) := dk_76 (dk_at dksX1_clearIn_0 4 rfl rfl)
theorem dX1_clearIn_5 : decode cX1_clearIn 5 = .ok (.iconst 0, 1) := dk_3 (dk_at dksX1_clearIn_0 5 rfl rfl)
theorem dX1_clearIn_6 : decode cX1_clearIn 6 = .ok (.istore_n 2, 1) := dk_61 (dk_at dksX1_clearIn_0 6 rfl rfl)
theorem dX1_clearIn_7 : decode cX1_clearIn 7 = .ok (.iload_n 2, 1) := dk_28 (dk_at dksX1_clearIn_0 7 rfl rfl)
theorem dX1_clearIn_8 : decode cX1_clearIn 8 = .ok (.sipush 500, 3) := dk_17 1 244 (dk_at dksX1_clearIn_0 8 rfl rfl)
theorem dX1_clearIn_11 : decode cX1_clearIn 11 = .ok (.if_icmp .gt 24, 3) := dk_163 0 24 (dk_at dksX1_clearIn_0 11 rfl rfl)
theorem dX1_clearIn_14 : decode cX1_clearIn 14 = .ok (.aload_n 1, 1) := dk_43 (dk_at dksX1_clearIn_0 14 rfl rfl)
theorem dX1_clearIn_15 : decode cX1_clearIn 15 = .ok (.iconst 0, 1) := dk_3 (dk_at dksX1_clearIn_0 15 rfl rfl)
theorem dX1_clearIn_16 : decode cX1_clearIn 16 = .ok (.invokevirtual 193, 3) := dk_182 0 193 (dk_at dksX1_clearIn_0 16 rfl rfl)
theorem dX1_clearIn_19 : decode cX1_clearIn 19 = .ok (.ifCond .ne 5, 3) := dk_154 0 5 (dk_at dksX1_clearIn_0 19 rfl rfl)
theorem dX1_clearIn_22 : decode cX1_clearIn 22 = .ok (.iload_n 2, 1) := dk_28 (dk_at dksX1_clearIn_0 22 rfl rfl)
theorem dX1_clearIn_23 : decode cX1_clearIn 23 = .ok (.ireturn, 1) := dk_172 (dk_at dksX1_clearIn_0 23 rfl rfl)
theorem dX1_clearIn_24 : decode cX1_clearIn 24 = .ok (.aload_n 1, 1) := dk_43 (dk_at dksX1_clearIn_1 0 rfl rfl)
theorem dX1_clearIn_25 : decode cX1_clearIn 25 = .ok (.invokevirtual 354, 3) := dk_182 1 98 (dk_at dksX1_clearIn_1 1 rfl rfl)
theorem dX1_clearIn_28 : decode cX1_clearIn 28 = .ok (.istore_n 3, 1) := dk_62 (dk_at dksX1_clearIn_1 4 rfl rfl)
theorem dX1_clearIn_29 : decode cX1_clearIn 29 = .ok (.iinc 2 1, 3) := dk_132 2 1 (dk_at dksX1_clearIn_1 5 rfl rfl)
theorem dX1_clearIn_32 : decode cX1_clearIn 32 = .ok (.goto (-25), 3) := dk_167 255 231 (dk_at dksX1_clearIn_1 8 rfl rfl)
theorem dX1_clearIn_35 : decode cX1_clearIn 35 = .ok (.iconst (-1), 1) := dk_2 (dk_at dksX1_clearIn_1 11 rfl rfl)
theorem dX1_clearIn_36 : decode cX1_clearIn 36 = .ok (.ireturn, 1) := dk_172 (dk_at dksX1_clearIn_1 12 rfl rfl)
abbrev cX1_think : ByteArray := prog_1_method_45_code
def yX1_think : MethodName := ⟨RX1, "think", "()LSortingLoop$Loop;"⟩
def dkwX1_think_0 : List UInt8 := [42, 180, 0, 59, 42, 180, 0, 50, 182, 1, 91, 176]
abbrev dktX1_think_0 : List UInt8 := dkwX1_think_0 ++ []
theorem dksX1_think_0 : cX1_think.data.toList.drop 0 = dktX1_think_0 := by decide +kernel
theorem dX1_think_0 : decode cX1_think 0 = .ok (.aload_n 0, 1) := dk_42 (dk_at dksX1_think_0 0 rfl rfl)
theorem dX1_think_1 : decode cX1_think 1 = .ok (.getfield 59, 3) := dk_180 0 59 (dk_at dksX1_think_0 1 rfl rfl)
theorem dX1_think_4 : decode cX1_think 4 = .ok (.aload_n 0, 1) := dk_42 (dk_at dksX1_think_0 4 rfl rfl)
theorem dX1_think_5 : decode cX1_think 5 = .ok (.getfield 50, 3) := dk_180 0 50 (dk_at dksX1_think_0 5 rfl rfl)
theorem dX1_think_8 : decode cX1_think 8 = .ok (.invokevirtual 347, 3) := dk_182 1 91 (dk_at dksX1_think_0 8 rfl rfl)
theorem dX1_think_11 : decode cX1_think 11 = .ok (.areturn, 1) := dk_176 (dk_at dksX1_think_0 11 rfl rfl)
abbrev cX1_freeIn : ByteArray := prog_1_method_56_code
def yX1_freeIn : MethodName := ⟨RX1, "freeIn", "()I"⟩
def dkwX1_freeIn_1 : List UInt8 := [182, 1, 126, 153, 0, 5, 28, 172, 43, 182, 1, 98, 62, 132, 2, 1, 167, 255, 225, 2, 172]
abbrev dktX1_freeIn_1 : List UInt8 := dkwX1_freeIn_1 ++ []
def dkwX1_freeIn_0 : List UInt8 := [42, 182, 1, 95, 76, 3, 61, 28, 17, 1, 244, 163, 0, 30, 43, 180, 0, 227, 43, 180, 0, 181]
abbrev dktX1_freeIn_0 : List UInt8 := dkwX1_freeIn_0 ++ dktX1_freeIn_1
theorem dksX1_freeIn_0 : cX1_freeIn.data.toList.drop 0 = dktX1_freeIn_0 := by decide +kernel
theorem dksX1_freeIn_1 : cX1_freeIn.data.toList.drop 22 = dktX1_freeIn_1 := dk_seg dksX1_freeIn_0 22 rfl rfl
theorem dX1_freeIn_0 : decode cX1_freeIn 0 = .ok (.aload_n 0, 1) := dk_42 (dk_at dksX1_freeIn_0 0 rfl rfl)
theorem dX1_freeIn_1 : decode cX1_freeIn 1 = .ok (.invokevirtual 351, 3) := dk_182 1 95 (dk_at dksX1_freeIn_0 1 rfl rfl)
theorem dX1_freeIn_4 : decode cX1_freeIn 4 = .ok (.astore_n 1, 1) := dk_76 (dk_at dksX1_freeIn_0 4 rfl rfl)
theorem dX1_freeIn_5 : decode cX1_freeIn 5 = .ok (.iconst 0, 1) := dk_3 (dk_at dksX1_freeIn_0 5 rfl rfl)
theorem dX1_freeIn_6 : decode cX1_freeIn 6 = .ok (.istore_n 2, 1) := dk_61 (dk_at dksX1_freeIn_0 6 rfl rfl)
theorem dX1_freeIn_7 : decode cX1_freeIn 7 = .ok (.iload_n 2, 1) := dk_28 (dk_at dksX1_freeIn_0 7 rfl rfl)
theorem dX1_freeIn_8 : decode cX1_freeIn 8 = .ok (.sipush 500, 3) := dk_17 1 244 (dk_at dksX1_freeIn_0 8 rfl rfl)
theorem dX1_freeIn_11 : decode cX1_freeIn 11 = .ok (.if_icmp .gt 30, 3) := dk_163 0 30 (dk_at dksX1_freeIn_0 11 rfl rfl)
theorem dX1_freeIn_14 : decode cX1_freeIn 14 = .ok (.aload_n 1, 1) := dk_43 (dk_at dksX1_freeIn_0 14 rfl rfl)
theorem dX1_freeIn_15 : decode cX1_freeIn 15 = .ok (.getfield 227, 3) := dk_180 0 227 (dk_at dksX1_freeIn_0 15 rfl rfl)
theorem dX1_freeIn_18 : decode cX1_freeIn 18 = .ok (.aload_n 1, 1) := dk_43 (dk_at dksX1_freeIn_0 18 rfl rfl)
theorem dX1_freeIn_19 : decode cX1_freeIn 19 = .ok (.getfield 181, 3) := dk_180 0 181 (dk_at dksX1_freeIn_0 19 rfl rfl)
theorem dX1_freeIn_22 : decode cX1_freeIn 22 = .ok (.invokevirtual 382, 3) := dk_182 1 126 (dk_at dksX1_freeIn_1 0 rfl rfl)
theorem dX1_freeIn_25 : decode cX1_freeIn 25 = .ok (.ifCond .eq 5, 3) := dk_153 0 5 (dk_at dksX1_freeIn_1 3 rfl rfl)
theorem dX1_freeIn_28 : decode cX1_freeIn 28 = .ok (.iload_n 2, 1) := dk_28 (dk_at dksX1_freeIn_1 6 rfl rfl)
theorem dX1_freeIn_29 : decode cX1_freeIn 29 = .ok (.ireturn, 1) := dk_172 (dk_at dksX1_freeIn_1 7 rfl rfl)
theorem dX1_freeIn_30 : decode cX1_freeIn 30 = .ok (.aload_n 1, 1) := dk_43 (dk_at dksX1_freeIn_1 8 rfl rfl)
theorem dX1_freeIn_31 : decode cX1_freeIn 31 = .ok (.invokevirtual 354, 3) := dk_182 1 98 (dk_at dksX1_freeIn_1 9 rfl rfl)
theorem dX1_freeIn_34 : decode cX1_freeIn 34 = .ok (.istore_n 3, 1) := dk_62 (dk_at dksX1_freeIn_1 12 rfl rfl)
theorem dX1_freeIn_35 : decode cX1_freeIn 35 = .ok (.iinc 2 1, 3) := dk_132 2 1 (dk_at dksX1_freeIn_1 13 rfl rfl)
theorem dX1_freeIn_38 : decode cX1_freeIn 38 = .ok (.goto (-31), 3) := dk_167 255 225 (dk_at dksX1_freeIn_1 16 rfl rfl)
theorem dX1_freeIn_41 : decode cX1_freeIn 41 = .ok (.iconst (-1), 1) := dk_2 (dk_at dksX1_freeIn_1 19 rfl rfl)
theorem dX1_freeIn_42 : decode cX1_freeIn 42 = .ok (.ireturn, 1) := dk_172 (dk_at dksX1_freeIn_1 20 rfl rfl)
abbrev cX1_agree : ByteArray := prog_1_method_59_code
def yX1_agree : MethodName := ⟨RX1, "agree", "()Z"⟩
def dkwX1_agree_7 : List UInt8 := [46, 42, 180, 0, 50, 6, 182, 0, 193, 160, 0, 7, 4, 167, 0, 4, 3, 172]
abbrev dktX1_agree_7 : List UInt8 := dkwX1_agree_7 ++ []
def dkwX1_agree_6 : List UInt8 := [153, 0, 40, 44, 4, 46, 42, 180, 0, 50, 180, 0, 154, 185, 0, 123, 1, 0, 160, 0, 22, 44, 16, 7]
abbrev dktX1_agree_6 : List UInt8 := dkwX1_agree_6 ++ dktX1_agree_7
def dkwX1_agree_5 : List UInt8 := [180, 0, 50, 180, 0, 210, 77, 27, 42, 180, 0, 50, 3, 182, 0, 193, 160, 0, 47, 42, 182, 1, 144]
abbrev dktX1_agree_5 : List UInt8 := dkwX1_agree_5 ++ dktX1_agree_6
def dkwX1_agree_4 : List UInt8 := [180, 0, 50, 28, 182, 0, 157, 182, 1, 140, 154, 0, 5, 3, 172, 132, 2, 1, 167, 255, 192, 42]
abbrev dktX1_agree_4 : List UInt8 := dkwX1_agree_4 ++ dktX1_agree_5
def dkwX1_agree_3 : List UInt8 := [182, 0, 157, 182, 1, 136, 153, 0, 31, 28, 158, 0, 29, 42, 180, 0, 50, 28, 4, 100, 182, 0, 157, 42]
abbrev dktX1_agree_3 : List UInt8 := dkwX1_agree_3 ++ dktX1_agree_4
def dkwX1_agree_2 : List UInt8 := [28, 42, 180, 0, 50, 180, 0, 154, 185, 0, 123, 1, 0, 162, 0, 54, 42, 42, 180, 0, 50, 28]
abbrev dktX1_agree_2 : List UInt8 := dkwX1_agree_2 ++ dktX1_agree_3
def dkwX1_agree_1 : List UInt8 := [182, 1, 126, 154, 0, 7, 4, 167, 0, 4, 3, 184, 0, 170, 96, 60, 132, 2, 1, 167, 255, 217, 3, 61]
abbrev dktX1_agree_1 : List UInt8 := dkwX1_agree_1 ++ dktX1_agree_2
def dkwX1_agree_0 : List UInt8 := [3, 60, 3, 61, 28, 42, 180, 0, 50, 180, 0, 178, 162, 0, 34, 27, 42, 180, 0, 50, 180, 0, 227, 28]
abbrev dktX1_agree_0 : List UInt8 := dkwX1_agree_0 ++ dktX1_agree_1
theorem dksX1_agree_0 : cX1_agree.data.toList.drop 0 = dktX1_agree_0 := by decide +kernel
theorem dksX1_agree_1 : cX1_agree.data.toList.drop 24 = dktX1_agree_1 := dk_seg dksX1_agree_0 24 rfl rfl
theorem dksX1_agree_2 : cX1_agree.data.toList.drop 48 = dktX1_agree_2 := dk_seg dksX1_agree_1 24 rfl rfl
theorem dksX1_agree_3 : cX1_agree.data.toList.drop 70 = dktX1_agree_3 := dk_seg dksX1_agree_2 22 rfl rfl
theorem dksX1_agree_4 : cX1_agree.data.toList.drop 94 = dktX1_agree_4 := dk_seg dksX1_agree_3 24 rfl rfl
theorem dksX1_agree_5 : cX1_agree.data.toList.drop 116 = dktX1_agree_5 := dk_seg dksX1_agree_4 22 rfl rfl
theorem dksX1_agree_6 : cX1_agree.data.toList.drop 139 = dktX1_agree_6 := dk_seg dksX1_agree_5 23 rfl rfl
theorem dksX1_agree_7 : cX1_agree.data.toList.drop 163 = dktX1_agree_7 := dk_seg dksX1_agree_6 24 rfl rfl
theorem dX1_agree_0 : decode cX1_agree 0 = .ok (.iconst 0, 1) := dk_3 (dk_at dksX1_agree_0 0 rfl rfl)
theorem dX1_agree_1 : decode cX1_agree 1 = .ok (.istore_n 1, 1) := dk_60 (dk_at dksX1_agree_0 1 rfl rfl)
theorem dX1_agree_2 : decode cX1_agree 2 = .ok (.iconst 0, 1) := dk_3 (dk_at dksX1_agree_0 2 rfl rfl)
theorem dX1_agree_3 : decode cX1_agree 3 = .ok (.istore_n 2, 1) := dk_61 (dk_at dksX1_agree_0 3 rfl rfl)
theorem dX1_agree_4 : decode cX1_agree 4 = .ok (.iload_n 2, 1) := dk_28 (dk_at dksX1_agree_0 4 rfl rfl)
theorem dX1_agree_5 : decode cX1_agree 5 = .ok (.aload_n 0, 1) := dk_42 (dk_at dksX1_agree_0 5 rfl rfl)
theorem dX1_agree_6 : decode cX1_agree 6 = .ok (.getfield 50, 3) := dk_180 0 50 (dk_at dksX1_agree_0 6 rfl rfl)
theorem dX1_agree_9 : decode cX1_agree 9 = .ok (.getfield 178, 3) := dk_180 0 178 (dk_at dksX1_agree_0 9 rfl rfl)
theorem dX1_agree_12 : decode cX1_agree 12 = .ok (.if_icmp .ge 34, 3) := dk_162 0 34 (dk_at dksX1_agree_0 12 rfl rfl)
theorem dX1_agree_15 : decode cX1_agree 15 = .ok (.iload_n 1, 1) := dk_27 (dk_at dksX1_agree_0 15 rfl rfl)
theorem dX1_agree_16 : decode cX1_agree 16 = .ok (.aload_n 0, 1) := dk_42 (dk_at dksX1_agree_0 16 rfl rfl)
theorem dX1_agree_17 : decode cX1_agree 17 = .ok (.getfield 50, 3) := dk_180 0 50 (dk_at dksX1_agree_0 17 rfl rfl)
theorem dX1_agree_20 : decode cX1_agree 20 = .ok (.getfield 227, 3) := dk_180 0 227 (dk_at dksX1_agree_0 20 rfl rfl)
theorem dX1_agree_23 : decode cX1_agree 23 = .ok (.iload_n 2, 1) := dk_28 (dk_at dksX1_agree_0 23 rfl rfl)
theorem dX1_agree_24 : decode cX1_agree 24 = .ok (.invokevirtual 382, 3) := dk_182 1 126 (dk_at dksX1_agree_1 0 rfl rfl)
theorem dX1_agree_27 : decode cX1_agree 27 = .ok (.ifCond .ne 7, 3) := dk_154 0 7 (dk_at dksX1_agree_1 3 rfl rfl)
theorem dX1_agree_30 : decode cX1_agree 30 = .ok (.iconst 1, 1) := dk_4 (dk_at dksX1_agree_1 6 rfl rfl)
theorem dX1_agree_31 : decode cX1_agree 31 = .ok (.goto 4, 3) := dk_167 0 4 (dk_at dksX1_agree_1 7 rfl rfl)
theorem dX1_agree_34 : decode cX1_agree 34 = .ok (.iconst 0, 1) := dk_3 (dk_at dksX1_agree_1 10 rfl rfl)
theorem dX1_agree_35 : decode cX1_agree 35 = .ok (.invokestatic 170, 3) := dk_184 0 170 (dk_at dksX1_agree_1 11 rfl rfl)
theorem dX1_agree_38 : decode cX1_agree 38 = .ok (.iadd, 1) := dk_96 (dk_at dksX1_agree_1 14 rfl rfl)
theorem dX1_agree_39 : decode cX1_agree 39 = .ok (.istore_n 1, 1) := dk_60 (dk_at dksX1_agree_1 15 rfl rfl)
theorem dX1_agree_40 : decode cX1_agree 40 = .ok (.iinc 2 1, 3) := dk_132 2 1 (dk_at dksX1_agree_1 16 rfl rfl)
theorem dX1_agree_43 : decode cX1_agree 43 = .ok (.goto (-39), 3) := dk_167 255 217 (dk_at dksX1_agree_1 19 rfl rfl)
theorem dX1_agree_46 : decode cX1_agree 46 = .ok (.iconst 0, 1) := dk_3 (dk_at dksX1_agree_1 22 rfl rfl)
theorem dX1_agree_47 : decode cX1_agree 47 = .ok (.istore_n 2, 1) := dk_61 (dk_at dksX1_agree_1 23 rfl rfl)
theorem dX1_agree_48 : decode cX1_agree 48 = .ok (.iload_n 2, 1) := dk_28 (dk_at dksX1_agree_2 0 rfl rfl)
theorem dX1_agree_49 : decode cX1_agree 49 = .ok (.aload_n 0, 1) := dk_42 (dk_at dksX1_agree_2 1 rfl rfl)
theorem dX1_agree_50 : decode cX1_agree 50 = .ok (.getfield 50, 3) := dk_180 0 50 (dk_at dksX1_agree_2 2 rfl rfl)
theorem dX1_agree_53 : decode cX1_agree 53 = .ok (.getfield 154, 3) := dk_180 0 154 (dk_at dksX1_agree_2 5 rfl rfl)
theorem dX1_agree_56 : decode cX1_agree 56 = .ok (.invokeinterface 123 1, 5) := by decide +kernel
theorem dX1_agree_61 : decode cX1_agree 61 = .ok (.if_icmp .ge 54, 3) := dk_162 0 54 (dk_at dksX1_agree_2 13 rfl rfl)
theorem dX1_agree_64 : decode cX1_agree 64 = .ok (.aload_n 0, 1) := dk_42 (dk_at dksX1_agree_2 16 rfl rfl)
theorem dX1_agree_65 : decode cX1_agree 65 = .ok (.aload_n 0, 1) := dk_42 (dk_at dksX1_agree_2 17 rfl rfl)
theorem dX1_agree_66 : decode cX1_agree 66 = .ok (.getfield 50, 3) := dk_180 0 50 (dk_at dksX1_agree_2 18 rfl rfl)
theorem dX1_agree_69 : decode cX1_agree 69 = .ok (.iload_n 2, 1) := dk_28 (dk_at dksX1_agree_2 21 rfl rfl)
theorem dX1_agree_70 : decode cX1_agree 70 = .ok (.invokevirtual 157, 3) := dk_182 0 157 (dk_at dksX1_agree_3 0 rfl rfl)
theorem dX1_agree_73 : decode cX1_agree 73 = .ok (.invokevirtual 392, 3) := dk_182 1 136 (dk_at dksX1_agree_3 3 rfl rfl)
theorem dX1_agree_76 : decode cX1_agree 76 = .ok (.ifCond .eq 31, 3) := dk_153 0 31 (dk_at dksX1_agree_3 6 rfl rfl)
theorem dX1_agree_79 : decode cX1_agree 79 = .ok (.iload_n 2, 1) := dk_28 (dk_at dksX1_agree_3 9 rfl rfl)
theorem dX1_agree_80 : decode cX1_agree 80 = .ok (.ifCond .le 29, 3) := dk_158 0 29 (dk_at dksX1_agree_3 10 rfl rfl)
theorem dX1_agree_83 : decode cX1_agree 83 = .ok (.aload_n 0, 1) := dk_42 (dk_at dksX1_agree_3 13 rfl rfl)
theorem dX1_agree_84 : decode cX1_agree 84 = .ok (.getfield 50, 3) := dk_180 0 50 (dk_at dksX1_agree_3 14 rfl rfl)
theorem dX1_agree_87 : decode cX1_agree 87 = .ok (.iload_n 2, 1) := dk_28 (dk_at dksX1_agree_3 17 rfl rfl)
theorem dX1_agree_88 : decode cX1_agree 88 = .ok (.iconst 1, 1) := dk_4 (dk_at dksX1_agree_3 18 rfl rfl)
theorem dX1_agree_89 : decode cX1_agree 89 = .ok (.isub, 1) := dk_100 (dk_at dksX1_agree_3 19 rfl rfl)
theorem dX1_agree_90 : decode cX1_agree 90 = .ok (.invokevirtual 157, 3) := dk_182 0 157 (dk_at dksX1_agree_3 20 rfl rfl)
theorem dX1_agree_93 : decode cX1_agree 93 = .ok (.aload_n 0, 1) := dk_42 (dk_at dksX1_agree_3 23 rfl rfl)
theorem dX1_agree_94 : decode cX1_agree 94 = .ok (.getfield 50, 3) := dk_180 0 50 (dk_at dksX1_agree_4 0 rfl rfl)
theorem dX1_agree_97 : decode cX1_agree 97 = .ok (.iload_n 2, 1) := dk_28 (dk_at dksX1_agree_4 3 rfl rfl)
theorem dX1_agree_98 : decode cX1_agree 98 = .ok (.invokevirtual 157, 3) := dk_182 0 157 (dk_at dksX1_agree_4 4 rfl rfl)
theorem dX1_agree_101 : decode cX1_agree 101 = .ok (.invokevirtual 396, 3) := dk_182 1 140 (dk_at dksX1_agree_4 7 rfl rfl)
theorem dX1_agree_104 : decode cX1_agree 104 = .ok (.ifCond .ne 5, 3) := dk_154 0 5 (dk_at dksX1_agree_4 10 rfl rfl)
theorem dX1_agree_107 : decode cX1_agree 107 = .ok (.iconst 0, 1) := dk_3 (dk_at dksX1_agree_4 13 rfl rfl)
theorem dX1_agree_108 : decode cX1_agree 108 = .ok (.ireturn, 1) := dk_172 (dk_at dksX1_agree_4 14 rfl rfl)
theorem dX1_agree_109 : decode cX1_agree 109 = .ok (.iinc 2 1, 3) := dk_132 2 1 (dk_at dksX1_agree_4 15 rfl rfl)
theorem dX1_agree_112 : decode cX1_agree 112 = .ok (.goto (-64), 3) := dk_167 255 192 (dk_at dksX1_agree_4 18 rfl rfl)
theorem dX1_agree_115 : decode cX1_agree 115 = .ok (.aload_n 0, 1) := dk_42 (dk_at dksX1_agree_4 21 rfl rfl)
theorem dX1_agree_116 : decode cX1_agree 116 = .ok (.getfield 50, 3) := dk_180 0 50 (dk_at dksX1_agree_5 0 rfl rfl)
theorem dX1_agree_119 : decode cX1_agree 119 = .ok (.getfield 210, 3) := dk_180 0 210 (dk_at dksX1_agree_5 3 rfl rfl)
theorem dX1_agree_122 : decode cX1_agree 122 = .ok (.astore_n 2, 1) := dk_77 (dk_at dksX1_agree_5 6 rfl rfl)
theorem dX1_agree_123 : decode cX1_agree 123 = .ok (.iload_n 1, 1) := dk_27 (dk_at dksX1_agree_5 7 rfl rfl)
theorem dX1_agree_124 : decode cX1_agree 124 = .ok (.aload_n 0, 1) := dk_42 (dk_at dksX1_agree_5 8 rfl rfl)
theorem dX1_agree_125 : decode cX1_agree 125 = .ok (.getfield 50, 3) := dk_180 0 50 (dk_at dksX1_agree_5 9 rfl rfl)
theorem dX1_agree_128 : decode cX1_agree 128 = .ok (.iconst 0, 1) := dk_3 (dk_at dksX1_agree_5 12 rfl rfl)
theorem dX1_agree_129 : decode cX1_agree 129 = .ok (.invokevirtual 193, 3) := dk_182 0 193 (dk_at dksX1_agree_5 13 rfl rfl)
theorem dX1_agree_132 : decode cX1_agree 132 = .ok (.if_icmp .ne 47, 3) := dk_160 0 47 (dk_at dksX1_agree_5 16 rfl rfl)
theorem dX1_agree_135 : decode cX1_agree 135 = .ok (.aload_n 0, 1) := dk_42 (dk_at dksX1_agree_5 19 rfl rfl)
theorem dX1_agree_136 : decode cX1_agree 136 = .ok (.invokevirtual 400, 3) := dk_182 1 144 (dk_at dksX1_agree_5 20 rfl rfl)
theorem dX1_agree_139 : decode cX1_agree 139 = .ok (.ifCond .eq 40, 3) := dk_153 0 40 (dk_at dksX1_agree_6 0 rfl rfl)
theorem dX1_agree_142 : decode cX1_agree 142 = .ok (.aload_n 2, 1) := dk_44 (dk_at dksX1_agree_6 3 rfl rfl)
theorem dX1_agree_143 : decode cX1_agree 143 = .ok (.iconst 1, 1) := dk_4 (dk_at dksX1_agree_6 4 rfl rfl)
theorem dX1_agree_144 : decode cX1_agree 144 = .ok (.iaload, 1) := dk_46 (dk_at dksX1_agree_6 5 rfl rfl)
theorem dX1_agree_145 : decode cX1_agree 145 = .ok (.aload_n 0, 1) := dk_42 (dk_at dksX1_agree_6 6 rfl rfl)
theorem dX1_agree_146 : decode cX1_agree 146 = .ok (.getfield 50, 3) := dk_180 0 50 (dk_at dksX1_agree_6 7 rfl rfl)
theorem dX1_agree_149 : decode cX1_agree 149 = .ok (.getfield 154, 3) := dk_180 0 154 (dk_at dksX1_agree_6 10 rfl rfl)
theorem dX1_agree_152 : decode cX1_agree 152 = .ok (.invokeinterface 123 1, 5) := by decide +kernel
theorem dX1_agree_157 : decode cX1_agree 157 = .ok (.if_icmp .ne 22, 3) := dk_160 0 22 (dk_at dksX1_agree_6 18 rfl rfl)
theorem dX1_agree_160 : decode cX1_agree 160 = .ok (.aload_n 2, 1) := dk_44 (dk_at dksX1_agree_6 21 rfl rfl)
theorem dX1_agree_161 : decode cX1_agree 161 = .ok (.bipush 7, 2) := dk_16 7 (dk_at dksX1_agree_6 22 rfl rfl)
theorem dX1_agree_163 : decode cX1_agree 163 = .ok (.iaload, 1) := dk_46 (dk_at dksX1_agree_7 0 rfl rfl)
theorem dX1_agree_164 : decode cX1_agree 164 = .ok (.aload_n 0, 1) := dk_42 (dk_at dksX1_agree_7 1 rfl rfl)
theorem dX1_agree_165 : decode cX1_agree 165 = .ok (.getfield 50, 3) := dk_180 0 50 (dk_at dksX1_agree_7 2 rfl rfl)
theorem dX1_agree_168 : decode cX1_agree 168 = .ok (.iconst 3, 1) := dk_6 (dk_at dksX1_agree_7 5 rfl rfl)
theorem dX1_agree_169 : decode cX1_agree 169 = .ok (.invokevirtual 193, 3) := dk_182 0 193 (dk_at dksX1_agree_7 6 rfl rfl)
theorem dX1_agree_172 : decode cX1_agree 172 = .ok (.if_icmp .ne 7, 3) := dk_160 0 7 (dk_at dksX1_agree_7 9 rfl rfl)
theorem dX1_agree_175 : decode cX1_agree 175 = .ok (.iconst 1, 1) := dk_4 (dk_at dksX1_agree_7 12 rfl rfl)
theorem dX1_agree_176 : decode cX1_agree 176 = .ok (.goto 4, 3) := dk_167 0 4 (dk_at dksX1_agree_7 13 rfl rfl)
theorem dX1_agree_179 : decode cX1_agree 179 = .ok (.iconst 0, 1) := dk_3 (dk_at dksX1_agree_7 16 rfl rfl)
theorem dX1_agree_180 : decode cX1_agree 180 = .ok (.ireturn, 1) := dk_172 (dk_at dksX1_agree_7 17 rfl rfl)
abbrev cX1_isInPlace : ByteArray := prog_1_method_57_code
def yX1_isInPlace : MethodName := ⟨RX1, "isInPlace", "(LSortingLoop$Parcel;)Z"⟩
def dkwX1_isInPlace_9 : List UInt8 := [180, 1, 11, 2, 160, 0, 15, 43, 180, 1, 8, 2, 160, 0, 7, 4, 167, 0, 4, 3, 172]
abbrev dktX1_isInPlace_9 : List UInt8 := dkwX1_isInPlace_9 ++ []
def dkwX1_isInPlace_8 : List UInt8 := [159, 0, 15, 43, 180, 1, 8, 2, 160, 0, 7, 4, 167, 0, 32, 3, 167, 0, 28, 29, 154, 0, 23, 43]
abbrev dktX1_isInPlace_8 : List UInt8 := dkwX1_isInPlace_8 ++ dktX1_isInPlace_9
def dkwX1_isInPlace_7 : List UInt8 := [180, 1, 8, 2, 160, 0, 7, 4, 167, 0, 60, 3, 167, 0, 56, 29, 154, 0, 23, 43, 180, 1, 11, 2]
abbrev dktX1_isInPlace_7 : List UInt8 := dkwX1_isInPlace_7 ++ dktX1_isInPlace_8
def dkwX1_isInPlace_6 : List UInt8 := [180, 0, 50, 43, 182, 0, 174, 157, 0, 7, 4, 167, 0, 80, 3, 167, 0, 76, 29, 153, 0, 15, 43]
abbrev dktX1_isInPlace_6 : List UInt8 := dkwX1_isInPlace_6 ++ dktX1_isInPlace_7
def dkwX1_isInPlace_5 : List UInt8 := [28, 153, 0, 37, 29, 154, 0, 33, 43, 180, 1, 13, 2, 160, 0, 25, 43, 180, 1, 133, 154, 0, 14, 42]
abbrev dktX1_isInPlace_5 : List UInt8 := dkwX1_isInPlace_5 ++ dktX1_isInPlace_6
def dkwX1_isInPlace_4 : List UInt8 := [170, 0, 0, 0, 0, 0, 117, 0, 0, 0, 0, 0, 0, 0, 2, 0, 0, 0, 27, 0, 0, 0, 69, 0, 0, 0, 89]
abbrev dktX1_isInPlace_4 : List UInt8 := dkwX1_isInPlace_4 ++ dktX1_isInPlace_5
def dkwX1_isInPlace_3 : List UInt8 := [43, 180, 1, 5]
abbrev dktX1_isInPlace_3 : List UInt8 := dkwX1_isInPlace_3 ++ dktX1_isInPlace_4
def dkwX1_isInPlace_2 : List UInt8 := [180, 1, 11, 182, 0, 217, 180, 1, 35, 43, 185, 1, 130, 2, 0, 153, 0, 7, 4, 167, 0, 4, 3, 62]
abbrev dktX1_isInPlace_2 : List UInt8 := dkwX1_isInPlace_2 ++ dktX1_isInPlace_3
def dkwX1_isInPlace_1 : List UInt8 := [166, 0, 7, 4, 167, 0, 4, 3, 61, 43, 180, 1, 11, 2, 159, 0, 30, 42, 180, 0, 50, 43]
abbrev dktX1_isInPlace_1 : List UInt8 := dkwX1_isInPlace_1 ++ dktX1_isInPlace_2
def dkwX1_isInPlace_0 : List UInt8 := [43, 180, 1, 8, 2, 159, 0, 25, 42, 180, 0, 50, 180, 0, 227, 43, 180, 1, 8, 182, 0, 231, 43]
abbrev dktX1_isInPlace_0 : List UInt8 := dkwX1_isInPlace_0 ++ dktX1_isInPlace_1
theorem dksX1_isInPlace_0 : cX1_isInPlace.data.toList.drop 0 = dktX1_isInPlace_0 := by decide +kernel
theorem dksX1_isInPlace_1 : cX1_isInPlace.data.toList.drop 23 = dktX1_isInPlace_1 := dk_seg dksX1_isInPlace_0 23 rfl rfl
theorem dksX1_isInPlace_2 : cX1_isInPlace.data.toList.drop 45 = dktX1_isInPlace_2 := dk_seg dksX1_isInPlace_1 22 rfl rfl
theorem dksX1_isInPlace_3 : cX1_isInPlace.data.toList.drop 69 = dktX1_isInPlace_3 := dk_seg dksX1_isInPlace_2 24 rfl rfl
theorem dksX1_isInPlace_4 : cX1_isInPlace.data.toList.drop 73 = dktX1_isInPlace_4 := dk_seg dksX1_isInPlace_3 4 rfl rfl
theorem dksX1_isInPlace_5 : cX1_isInPlace.data.toList.drop 100 = dktX1_isInPlace_5 := dk_seg dksX1_isInPlace_4 27 rfl rfl
theorem dksX1_isInPlace_6 : cX1_isInPlace.data.toList.drop 124 = dktX1_isInPlace_6 := dk_seg dksX1_isInPlace_5 24 rfl rfl
theorem dksX1_isInPlace_7 : cX1_isInPlace.data.toList.drop 147 = dktX1_isInPlace_7 := dk_seg dksX1_isInPlace_6 23 rfl rfl
theorem dksX1_isInPlace_8 : cX1_isInPlace.data.toList.drop 171 = dktX1_isInPlace_8 := dk_seg dksX1_isInPlace_7 24 rfl rfl
theorem dksX1_isInPlace_9 : cX1_isInPlace.data.toList.drop 195 = dktX1_isInPlace_9 := dk_seg dksX1_isInPlace_8 24 rfl rfl
theorem dX1_isInPlace_0 : decode cX1_isInPlace 0 = .ok (.aload_n 1, 1) := dk_43 (dk_at dksX1_isInPlace_0 0 rfl rfl)
theorem dX1_isInPlace_1 : decode cX1_isInPlace 1 = .ok (.getfield 264, 3) := dk_180 1 8 (dk_at dksX1_isInPlace_0 1 rfl rfl)
theorem dX1_isInPlace_4 : decode cX1_isInPlace 4 = .ok (.iconst (-1), 1) := dk_2 (dk_at dksX1_isInPlace_0 4 rfl rfl)
theorem dX1_isInPlace_5 : decode cX1_isInPlace 5 = .ok (.if_icmp .eq 25, 3) := dk_159 0 25 (dk_at dksX1_isInPlace_0 5 rfl rfl)
theorem dX1_isInPlace_8 : decode cX1_isInPlace 8 = .ok (.aload_n 0, 1) := dk_42 (dk_at dksX1_isInPlace_0 8 rfl rfl)
theorem dX1_isInPlace_9 : decode cX1_isInPlace 9 = .ok (.getfield 50, 3) := dk_180 0 50 (dk_at dksX1_isInPlace_0 9 rfl rfl)
theorem dX1_isInPlace_12 : decode cX1_isInPlace 12 = .ok (.getfield 227, 3) := dk_180 0 227 (dk_at dksX1_isInPlace_0 12 rfl rfl)
theorem dX1_isInPlace_15 : decode cX1_isInPlace 15 = .ok (.aload_n 1, 1) := dk_43 (dk_at dksX1_isInPlace_0 15 rfl rfl)
theorem dX1_isInPlace_16 : decode cX1_isInPlace 16 = .ok (.getfield 264, 3) := dk_180 1 8 (dk_at dksX1_isInPlace_0 16 rfl rfl)
theorem dX1_isInPlace_19 : decode cX1_isInPlace 19 = .ok (.invokevirtual 231, 3) := dk_182 0 231 (dk_at dksX1_isInPlace_0 19 rfl rfl)
theorem dX1_isInPlace_22 : decode cX1_isInPlace 22 = .ok (.aload_n 1, 1) := dk_43 (dk_at dksX1_isInPlace_0 22 rfl rfl)
theorem dX1_isInPlace_23 : decode cX1_isInPlace 23 = .ok (.if_acmp .ne 7, 3) := dk_166 0 7 (dk_at dksX1_isInPlace_1 0 rfl rfl)
theorem dX1_isInPlace_26 : decode cX1_isInPlace 26 = .ok (.iconst 1, 1) := dk_4 (dk_at dksX1_isInPlace_1 3 rfl rfl)
theorem dX1_isInPlace_27 : decode cX1_isInPlace 27 = .ok (.goto 4, 3) := dk_167 0 4 (dk_at dksX1_isInPlace_1 4 rfl rfl)
theorem dX1_isInPlace_30 : decode cX1_isInPlace 30 = .ok (.iconst 0, 1) := dk_3 (dk_at dksX1_isInPlace_1 7 rfl rfl)
theorem dX1_isInPlace_31 : decode cX1_isInPlace 31 = .ok (.istore_n 2, 1) := dk_61 (dk_at dksX1_isInPlace_1 8 rfl rfl)
theorem dX1_isInPlace_32 : decode cX1_isInPlace 32 = .ok (.aload_n 1, 1) := dk_43 (dk_at dksX1_isInPlace_1 9 rfl rfl)
theorem dX1_isInPlace_33 : decode cX1_isInPlace 33 = .ok (.getfield 267, 3) := dk_180 1 11 (dk_at dksX1_isInPlace_1 10 rfl rfl)
theorem dX1_isInPlace_36 : decode cX1_isInPlace 36 = .ok (.iconst (-1), 1) := dk_2 (dk_at dksX1_isInPlace_1 13 rfl rfl)
theorem dX1_isInPlace_37 : decode cX1_isInPlace 37 = .ok (.if_icmp .eq 30, 3) := dk_159 0 30 (dk_at dksX1_isInPlace_1 14 rfl rfl)
theorem dX1_isInPlace_40 : decode cX1_isInPlace 40 = .ok (.aload_n 0, 1) := dk_42 (dk_at dksX1_isInPlace_1 17 rfl rfl)
theorem dX1_isInPlace_41 : decode cX1_isInPlace 41 = .ok (.getfield 50, 3) := dk_180 0 50 (dk_at dksX1_isInPlace_1 18 rfl rfl)
theorem dX1_isInPlace_44 : decode cX1_isInPlace 44 = .ok (.aload_n 1, 1) := dk_43 (dk_at dksX1_isInPlace_1 21 rfl rfl)
theorem dX1_isInPlace_45 : decode cX1_isInPlace 45 = .ok (.getfield 267, 3) := dk_180 1 11 (dk_at dksX1_isInPlace_2 0 rfl rfl)
theorem dX1_isInPlace_48 : decode cX1_isInPlace 48 = .ok (.invokevirtual 217, 3) := dk_182 0 217 (dk_at dksX1_isInPlace_2 3 rfl rfl)
theorem dX1_isInPlace_51 : decode cX1_isInPlace 51 = .ok (.getfield 291, 3) := dk_180 1 35 (dk_at dksX1_isInPlace_2 6 rfl rfl)
theorem dX1_isInPlace_54 : decode cX1_isInPlace 54 = .ok (.aload_n 1, 1) := dk_43 (dk_at dksX1_isInPlace_2 9 rfl rfl)
theorem dX1_isInPlace_55 : decode cX1_isInPlace 55 = .ok (.invokeinterface 386 2, 5) := by decide +kernel
theorem dX1_isInPlace_60 : decode cX1_isInPlace 60 = .ok (.ifCond .eq 7, 3) := dk_153 0 7 (dk_at dksX1_isInPlace_2 15 rfl rfl)
theorem dX1_isInPlace_63 : decode cX1_isInPlace 63 = .ok (.iconst 1, 1) := dk_4 (dk_at dksX1_isInPlace_2 18 rfl rfl)
theorem dX1_isInPlace_64 : decode cX1_isInPlace 64 = .ok (.goto 4, 3) := dk_167 0 4 (dk_at dksX1_isInPlace_2 19 rfl rfl)
theorem dX1_isInPlace_67 : decode cX1_isInPlace 67 = .ok (.iconst 0, 1) := dk_3 (dk_at dksX1_isInPlace_2 22 rfl rfl)
theorem dX1_isInPlace_68 : decode cX1_isInPlace 68 = .ok (.istore_n 3, 1) := dk_62 (dk_at dksX1_isInPlace_2 23 rfl rfl)
theorem dX1_isInPlace_69 : decode cX1_isInPlace 69 = .ok (.aload_n 1, 1) := dk_43 (dk_at dksX1_isInPlace_3 0 rfl rfl)
theorem dX1_isInPlace_70 : decode cX1_isInPlace 70 = .ok (.getfield 261, 3) := dk_180 1 5 (dk_at dksX1_isInPlace_3 1 rfl rfl)
theorem dX1_isInPlace_73 : decode cX1_isInPlace 73 = .ok (.tableswitch 117 0 2 #[27, 69, 89], 27) := by decide +kernel
theorem dX1_isInPlace_100 : decode cX1_isInPlace 100 = .ok (.iload_n 2, 1) := dk_28 (dk_at dksX1_isInPlace_5 0 rfl rfl)
theorem dX1_isInPlace_101 : decode cX1_isInPlace 101 = .ok (.ifCond .eq 37, 3) := dk_153 0 37 (dk_at dksX1_isInPlace_5 1 rfl rfl)
theorem dX1_isInPlace_104 : decode cX1_isInPlace 104 = .ok (.iload_n 3, 1) := dk_29 (dk_at dksX1_isInPlace_5 4 rfl rfl)
theorem dX1_isInPlace_105 : decode cX1_isInPlace 105 = .ok (.ifCond .ne 33, 3) := dk_154 0 33 (dk_at dksX1_isInPlace_5 5 rfl rfl)
theorem dX1_isInPlace_108 : decode cX1_isInPlace 108 = .ok (.aload_n 1, 1) := dk_43 (dk_at dksX1_isInPlace_5 8 rfl rfl)
theorem dX1_isInPlace_109 : decode cX1_isInPlace 109 = .ok (.getfield 269, 3) := dk_180 1 13 (dk_at dksX1_isInPlace_5 9 rfl rfl)
theorem dX1_isInPlace_112 : decode cX1_isInPlace 112 = .ok (.iconst (-1), 1) := dk_2 (dk_at dksX1_isInPlace_5 12 rfl rfl)
theorem dX1_isInPlace_113 : decode cX1_isInPlace 113 = .ok (.if_icmp .ne 25, 3) := dk_160 0 25 (dk_at dksX1_isInPlace_5 13 rfl rfl)
theorem dX1_isInPlace_116 : decode cX1_isInPlace 116 = .ok (.aload_n 1, 1) := dk_43 (dk_at dksX1_isInPlace_5 16 rfl rfl)
theorem dX1_isInPlace_117 : decode cX1_isInPlace 117 = .ok (.getfield 389, 3) := dk_180 1 133 (dk_at dksX1_isInPlace_5 17 rfl rfl)
theorem dX1_isInPlace_120 : decode cX1_isInPlace 120 = .ok (.ifCond .ne 14, 3) := dk_154 0 14 (dk_at dksX1_isInPlace_5 20 rfl rfl)
theorem dX1_isInPlace_123 : decode cX1_isInPlace 123 = .ok (.aload_n 0, 1) := dk_42 (dk_at dksX1_isInPlace_5 23 rfl rfl)
theorem dX1_isInPlace_124 : decode cX1_isInPlace 124 = .ok (.getfield 50, 3) := dk_180 0 50 (dk_at dksX1_isInPlace_6 0 rfl rfl)
theorem dX1_isInPlace_127 : decode cX1_isInPlace 127 = .ok (.aload_n 1, 1) := dk_43 (dk_at dksX1_isInPlace_6 3 rfl rfl)
theorem dX1_isInPlace_128 : decode cX1_isInPlace 128 = .ok (.invokevirtual 174, 3) := dk_182 0 174 (dk_at dksX1_isInPlace_6 4 rfl rfl)
theorem dX1_isInPlace_131 : decode cX1_isInPlace 131 = .ok (.ifCond .gt 7, 3) := dk_157 0 7 (dk_at dksX1_isInPlace_6 7 rfl rfl)
theorem dX1_isInPlace_134 : decode cX1_isInPlace 134 = .ok (.iconst 1, 1) := dk_4 (dk_at dksX1_isInPlace_6 10 rfl rfl)
theorem dX1_isInPlace_135 : decode cX1_isInPlace 135 = .ok (.goto 80, 3) := dk_167 0 80 (dk_at dksX1_isInPlace_6 11 rfl rfl)
theorem dX1_isInPlace_138 : decode cX1_isInPlace 138 = .ok (.iconst 0, 1) := dk_3 (dk_at dksX1_isInPlace_6 14 rfl rfl)
theorem dX1_isInPlace_139 : decode cX1_isInPlace 139 = .ok (.goto 76, 3) := dk_167 0 76 (dk_at dksX1_isInPlace_6 15 rfl rfl)
theorem dX1_isInPlace_142 : decode cX1_isInPlace 142 = .ok (.iload_n 3, 1) := dk_29 (dk_at dksX1_isInPlace_6 18 rfl rfl)
theorem dX1_isInPlace_143 : decode cX1_isInPlace 143 = .ok (.ifCond .eq 15, 3) := dk_153 0 15 (dk_at dksX1_isInPlace_6 19 rfl rfl)
theorem dX1_isInPlace_146 : decode cX1_isInPlace 146 = .ok (.aload_n 1, 1) := dk_43 (dk_at dksX1_isInPlace_6 22 rfl rfl)
theorem dX1_isInPlace_147 : decode cX1_isInPlace 147 = .ok (.getfield 264, 3) := dk_180 1 8 (dk_at dksX1_isInPlace_7 0 rfl rfl)
theorem dX1_isInPlace_150 : decode cX1_isInPlace 150 = .ok (.iconst (-1), 1) := dk_2 (dk_at dksX1_isInPlace_7 3 rfl rfl)
theorem dX1_isInPlace_151 : decode cX1_isInPlace 151 = .ok (.if_icmp .ne 7, 3) := dk_160 0 7 (dk_at dksX1_isInPlace_7 4 rfl rfl)
theorem dX1_isInPlace_154 : decode cX1_isInPlace 154 = .ok (.iconst 1, 1) := dk_4 (dk_at dksX1_isInPlace_7 7 rfl rfl)
theorem dX1_isInPlace_155 : decode cX1_isInPlace 155 = .ok (.goto 60, 3) := dk_167 0 60 (dk_at dksX1_isInPlace_7 8 rfl rfl)
theorem dX1_isInPlace_158 : decode cX1_isInPlace 158 = .ok (.iconst 0, 1) := dk_3 (dk_at dksX1_isInPlace_7 11 rfl rfl)
theorem dX1_isInPlace_159 : decode cX1_isInPlace 159 = .ok (.goto 56, 3) := dk_167 0 56 (dk_at dksX1_isInPlace_7 12 rfl rfl)
theorem dX1_isInPlace_162 : decode cX1_isInPlace 162 = .ok (.iload_n 3, 1) := dk_29 (dk_at dksX1_isInPlace_7 15 rfl rfl)
theorem dX1_isInPlace_163 : decode cX1_isInPlace 163 = .ok (.ifCond .ne 23, 3) := dk_154 0 23 (dk_at dksX1_isInPlace_7 16 rfl rfl)
theorem dX1_isInPlace_166 : decode cX1_isInPlace 166 = .ok (.aload_n 1, 1) := dk_43 (dk_at dksX1_isInPlace_7 19 rfl rfl)
theorem dX1_isInPlace_167 : decode cX1_isInPlace 167 = .ok (.getfield 267, 3) := dk_180 1 11 (dk_at dksX1_isInPlace_7 20 rfl rfl)
theorem dX1_isInPlace_170 : decode cX1_isInPlace 170 = .ok (.iconst (-1), 1) := dk_2 (dk_at dksX1_isInPlace_7 23 rfl rfl)
theorem dX1_isInPlace_171 : decode cX1_isInPlace 171 = .ok (.if_icmp .eq 15, 3) := dk_159 0 15 (dk_at dksX1_isInPlace_8 0 rfl rfl)
theorem dX1_isInPlace_174 : decode cX1_isInPlace 174 = .ok (.aload_n 1, 1) := dk_43 (dk_at dksX1_isInPlace_8 3 rfl rfl)
theorem dX1_isInPlace_175 : decode cX1_isInPlace 175 = .ok (.getfield 264, 3) := dk_180 1 8 (dk_at dksX1_isInPlace_8 4 rfl rfl)
theorem dX1_isInPlace_178 : decode cX1_isInPlace 178 = .ok (.iconst (-1), 1) := dk_2 (dk_at dksX1_isInPlace_8 7 rfl rfl)
theorem dX1_isInPlace_179 : decode cX1_isInPlace 179 = .ok (.if_icmp .ne 7, 3) := dk_160 0 7 (dk_at dksX1_isInPlace_8 8 rfl rfl)
theorem dX1_isInPlace_182 : decode cX1_isInPlace 182 = .ok (.iconst 1, 1) := dk_4 (dk_at dksX1_isInPlace_8 11 rfl rfl)
theorem dX1_isInPlace_183 : decode cX1_isInPlace 183 = .ok (.goto 32, 3) := dk_167 0 32 (dk_at dksX1_isInPlace_8 12 rfl rfl)
theorem dX1_isInPlace_186 : decode cX1_isInPlace 186 = .ok (.iconst 0, 1) := dk_3 (dk_at dksX1_isInPlace_8 15 rfl rfl)
theorem dX1_isInPlace_187 : decode cX1_isInPlace 187 = .ok (.goto 28, 3) := dk_167 0 28 (dk_at dksX1_isInPlace_8 16 rfl rfl)
theorem dX1_isInPlace_190 : decode cX1_isInPlace 190 = .ok (.iload_n 3, 1) := dk_29 (dk_at dksX1_isInPlace_8 19 rfl rfl)
theorem dX1_isInPlace_191 : decode cX1_isInPlace 191 = .ok (.ifCond .ne 23, 3) := dk_154 0 23 (dk_at dksX1_isInPlace_8 20 rfl rfl)
theorem dX1_isInPlace_194 : decode cX1_isInPlace 194 = .ok (.aload_n 1, 1) := dk_43 (dk_at dksX1_isInPlace_8 23 rfl rfl)
theorem dX1_isInPlace_195 : decode cX1_isInPlace 195 = .ok (.getfield 267, 3) := dk_180 1 11 (dk_at dksX1_isInPlace_9 0 rfl rfl)
theorem dX1_isInPlace_198 : decode cX1_isInPlace 198 = .ok (.iconst (-1), 1) := dk_2 (dk_at dksX1_isInPlace_9 3 rfl rfl)
theorem dX1_isInPlace_199 : decode cX1_isInPlace 199 = .ok (.if_icmp .ne 15, 3) := dk_160 0 15 (dk_at dksX1_isInPlace_9 4 rfl rfl)
theorem dX1_isInPlace_202 : decode cX1_isInPlace 202 = .ok (.aload_n 1, 1) := dk_43 (dk_at dksX1_isInPlace_9 7 rfl rfl)
theorem dX1_isInPlace_203 : decode cX1_isInPlace 203 = .ok (.getfield 264, 3) := dk_180 1 8 (dk_at dksX1_isInPlace_9 8 rfl rfl)
theorem dX1_isInPlace_206 : decode cX1_isInPlace 206 = .ok (.iconst (-1), 1) := dk_2 (dk_at dksX1_isInPlace_9 11 rfl rfl)
theorem dX1_isInPlace_207 : decode cX1_isInPlace 207 = .ok (.if_icmp .ne 7, 3) := dk_160 0 7 (dk_at dksX1_isInPlace_9 12 rfl rfl)
theorem dX1_isInPlace_210 : decode cX1_isInPlace 210 = .ok (.iconst 1, 1) := dk_4 (dk_at dksX1_isInPlace_9 15 rfl rfl)
theorem dX1_isInPlace_211 : decode cX1_isInPlace 211 = .ok (.goto 4, 3) := dk_167 0 4 (dk_at dksX1_isInPlace_9 16 rfl rfl)
theorem dX1_isInPlace_214 : decode cX1_isInPlace 214 = .ok (.iconst 0, 1) := dk_3 (dk_at dksX1_isInPlace_9 19 rfl rfl)
theorem dX1_isInPlace_215 : decode cX1_isInPlace 215 = .ok (.ireturn, 1) := dk_172 (dk_at dksX1_isInPlace_9 20 rfl rfl)
abbrev cX1_areChutes : ByteArray := prog_1_method_58_code
def yX1_areChutes : MethodName := ⟨RX1, "areChutes", "()Z"⟩
def dkwX1_areChutes_6 : List UInt8 := [167, 0, 4, 3, 172]
abbrev dktX1_areChutes_6 : List UInt8 := dkwX1_areChutes_6 ++ []
def dkwX1_areChutes_5 : List UInt8 := [182, 0, 193, 160, 0, 22, 45, 16, 10, 46, 42, 180, 0, 50, 5, 182, 0, 193, 160, 0, 7, 4]
abbrev dktX1_areChutes_5 : List UInt8 := dkwX1_areChutes_5 ++ dktX1_areChutes_6
def dkwX1_areChutes_4 : List UInt8 := [160, 0, 48, 27, 28, 42, 180, 0, 50, 5, 182, 0, 193, 96, 160, 0, 34, 28, 42, 180, 0, 50, 4]
abbrev dktX1_areChutes_4 : List UInt8 := dkwX1_areChutes_4 ++ dktX1_areChutes_5
def dkwX1_areChutes_3 : List UInt8 := [96, 61, 132, 3, 1, 167, 255, 186, 42, 180, 0, 50, 180, 0, 210, 78, 27, 45, 5, 46, 45, 6, 46, 96]
abbrev dktX1_areChutes_3 : List UInt8 := dkwX1_areChutes_3 ++ dktX1_areChutes_4
def dkwX1_areChutes_2 : List UInt8 := [164, 0, 5, 3, 172, 27, 25, 4, 180, 1, 41, 96, 60, 28, 25, 4, 180, 1, 35, 185, 0, 123, 1, 0]
abbrev dktX1_areChutes_2 : List UInt8 := dkwX1_areChutes_2 ++ dktX1_areChutes_3
def dkwX1_areChutes_1 : List UInt8 := [180, 0, 50, 29, 182, 0, 217, 58, 4, 25, 4, 180, 1, 35, 185, 0, 123, 1, 0, 25, 4, 180, 1, 19]
abbrev dktX1_areChutes_1 : List UInt8 := dkwX1_areChutes_1 ++ dktX1_areChutes_2
def dkwX1_areChutes_0 : List UInt8 := [3, 60, 3, 61, 3, 62, 29, 42, 180, 0, 50, 180, 0, 69, 185, 0, 123, 1, 0, 162, 0, 60, 42]
abbrev dktX1_areChutes_0 : List UInt8 := dkwX1_areChutes_0 ++ dktX1_areChutes_1
theorem dksX1_areChutes_0 : cX1_areChutes.data.toList.drop 0 = dktX1_areChutes_0 := by decide +kernel
theorem dksX1_areChutes_1 : cX1_areChutes.data.toList.drop 23 = dktX1_areChutes_1 := dk_seg dksX1_areChutes_0 23 rfl rfl
theorem dksX1_areChutes_2 : cX1_areChutes.data.toList.drop 47 = dktX1_areChutes_2 := dk_seg dksX1_areChutes_1 24 rfl rfl
theorem dksX1_areChutes_3 : cX1_areChutes.data.toList.drop 71 = dktX1_areChutes_3 := dk_seg dksX1_areChutes_2 24 rfl rfl
theorem dksX1_areChutes_4 : cX1_areChutes.data.toList.drop 95 = dktX1_areChutes_4 := dk_seg dksX1_areChutes_3 24 rfl rfl
theorem dksX1_areChutes_5 : cX1_areChutes.data.toList.drop 118 = dktX1_areChutes_5 := dk_seg dksX1_areChutes_4 23 rfl rfl
theorem dksX1_areChutes_6 : cX1_areChutes.data.toList.drop 140 = dktX1_areChutes_6 := dk_seg dksX1_areChutes_5 22 rfl rfl
theorem dX1_areChutes_0 : decode cX1_areChutes 0 = .ok (.iconst 0, 1) := dk_3 (dk_at dksX1_areChutes_0 0 rfl rfl)
theorem dX1_areChutes_1 : decode cX1_areChutes 1 = .ok (.istore_n 1, 1) := dk_60 (dk_at dksX1_areChutes_0 1 rfl rfl)
theorem dX1_areChutes_2 : decode cX1_areChutes 2 = .ok (.iconst 0, 1) := dk_3 (dk_at dksX1_areChutes_0 2 rfl rfl)
theorem dX1_areChutes_3 : decode cX1_areChutes 3 = .ok (.istore_n 2, 1) := dk_61 (dk_at dksX1_areChutes_0 3 rfl rfl)
theorem dX1_areChutes_4 : decode cX1_areChutes 4 = .ok (.iconst 0, 1) := dk_3 (dk_at dksX1_areChutes_0 4 rfl rfl)
theorem dX1_areChutes_5 : decode cX1_areChutes 5 = .ok (.istore_n 3, 1) := dk_62 (dk_at dksX1_areChutes_0 5 rfl rfl)
theorem dX1_areChutes_6 : decode cX1_areChutes 6 = .ok (.iload_n 3, 1) := dk_29 (dk_at dksX1_areChutes_0 6 rfl rfl)
theorem dX1_areChutes_7 : decode cX1_areChutes 7 = .ok (.aload_n 0, 1) := dk_42 (dk_at dksX1_areChutes_0 7 rfl rfl)
theorem dX1_areChutes_8 : decode cX1_areChutes 8 = .ok (.getfield 50, 3) := dk_180 0 50 (dk_at dksX1_areChutes_0 8 rfl rfl)
theorem dX1_areChutes_11 : decode cX1_areChutes 11 = .ok (.getfield 69, 3) := dk_180 0 69 (dk_at dksX1_areChutes_0 11 rfl rfl)
theorem dX1_areChutes_14 : decode cX1_areChutes 14 = .ok (.invokeinterface 123 1, 5) := by decide +kernel
theorem dX1_areChutes_19 : decode cX1_areChutes 19 = .ok (.if_icmp .ge 60, 3) := dk_162 0 60 (dk_at dksX1_areChutes_0 19 rfl rfl)
theorem dX1_areChutes_22 : decode cX1_areChutes 22 = .ok (.aload_n 0, 1) := dk_42 (dk_at dksX1_areChutes_0 22 rfl rfl)
theorem dX1_areChutes_23 : decode cX1_areChutes 23 = .ok (.getfield 50, 3) := dk_180 0 50 (dk_at dksX1_areChutes_1 0 rfl rfl)
theorem dX1_areChutes_26 : decode cX1_areChutes 26 = .ok (.iload_n 3, 1) := dk_29 (dk_at dksX1_areChutes_1 3 rfl rfl)
theorem dX1_areChutes_27 : decode cX1_areChutes 27 = .ok (.invokevirtual 217, 3) := dk_182 0 217 (dk_at dksX1_areChutes_1 4 rfl rfl)
theorem dX1_areChutes_30 : decode cX1_areChutes 30 = .ok (.astore 4, 2) := dk_58 4 (dk_at dksX1_areChutes_1 7 rfl rfl)
theorem dX1_areChutes_32 : decode cX1_areChutes 32 = .ok (.aload 4, 2) := dk_25 4 (dk_at dksX1_areChutes_1 9 rfl rfl)
theorem dX1_areChutes_34 : decode cX1_areChutes 34 = .ok (.getfield 291, 3) := dk_180 1 35 (dk_at dksX1_areChutes_1 11 rfl rfl)
theorem dX1_areChutes_37 : decode cX1_areChutes 37 = .ok (.invokeinterface 123 1, 5) := by decide +kernel
theorem dX1_areChutes_42 : decode cX1_areChutes 42 = .ok (.aload 4, 2) := dk_25 4 (dk_at dksX1_areChutes_1 19 rfl rfl)
theorem dX1_areChutes_44 : decode cX1_areChutes 44 = .ok (.getfield 275, 3) := dk_180 1 19 (dk_at dksX1_areChutes_1 21 rfl rfl)
theorem dX1_areChutes_47 : decode cX1_areChutes 47 = .ok (.if_icmp .le 5, 3) := dk_164 0 5 (dk_at dksX1_areChutes_2 0 rfl rfl)
theorem dX1_areChutes_50 : decode cX1_areChutes 50 = .ok (.iconst 0, 1) := dk_3 (dk_at dksX1_areChutes_2 3 rfl rfl)
theorem dX1_areChutes_51 : decode cX1_areChutes 51 = .ok (.ireturn, 1) := dk_172 (dk_at dksX1_areChutes_2 4 rfl rfl)
theorem dX1_areChutes_52 : decode cX1_areChutes 52 = .ok (.iload_n 1, 1) := dk_27 (dk_at dksX1_areChutes_2 5 rfl rfl)
theorem dX1_areChutes_53 : decode cX1_areChutes 53 = .ok (.aload 4, 2) := dk_25 4 (dk_at dksX1_areChutes_2 6 rfl rfl)
theorem dX1_areChutes_55 : decode cX1_areChutes 55 = .ok (.getfield 297, 3) := dk_180 1 41 (dk_at dksX1_areChutes_2 8 rfl rfl)
theorem dX1_areChutes_58 : decode cX1_areChutes 58 = .ok (.iadd, 1) := dk_96 (dk_at dksX1_areChutes_2 11 rfl rfl)
theorem dX1_areChutes_59 : decode cX1_areChutes 59 = .ok (.istore_n 1, 1) := dk_60 (dk_at dksX1_areChutes_2 12 rfl rfl)
theorem dX1_areChutes_60 : decode cX1_areChutes 60 = .ok (.iload_n 2, 1) := dk_28 (dk_at dksX1_areChutes_2 13 rfl rfl)
theorem dX1_areChutes_61 : decode cX1_areChutes 61 = .ok (.aload 4, 2) := dk_25 4 (dk_at dksX1_areChutes_2 14 rfl rfl)
theorem dX1_areChutes_63 : decode cX1_areChutes 63 = .ok (.getfield 291, 3) := dk_180 1 35 (dk_at dksX1_areChutes_2 16 rfl rfl)
theorem dX1_areChutes_66 : decode cX1_areChutes 66 = .ok (.invokeinterface 123 1, 5) := by decide +kernel
theorem dX1_areChutes_71 : decode cX1_areChutes 71 = .ok (.iadd, 1) := dk_96 (dk_at dksX1_areChutes_3 0 rfl rfl)
theorem dX1_areChutes_72 : decode cX1_areChutes 72 = .ok (.istore_n 2, 1) := dk_61 (dk_at dksX1_areChutes_3 1 rfl rfl)
theorem dX1_areChutes_73 : decode cX1_areChutes 73 = .ok (.iinc 3 1, 3) := dk_132 3 1 (dk_at dksX1_areChutes_3 2 rfl rfl)
theorem dX1_areChutes_76 : decode cX1_areChutes 76 = .ok (.goto (-70), 3) := dk_167 255 186 (dk_at dksX1_areChutes_3 5 rfl rfl)
theorem dX1_areChutes_79 : decode cX1_areChutes 79 = .ok (.aload_n 0, 1) := dk_42 (dk_at dksX1_areChutes_3 8 rfl rfl)
theorem dX1_areChutes_80 : decode cX1_areChutes 80 = .ok (.getfield 50, 3) := dk_180 0 50 (dk_at dksX1_areChutes_3 9 rfl rfl)
theorem dX1_areChutes_83 : decode cX1_areChutes 83 = .ok (.getfield 210, 3) := dk_180 0 210 (dk_at dksX1_areChutes_3 12 rfl rfl)
theorem dX1_areChutes_86 : decode cX1_areChutes 86 = .ok (.astore_n 3, 1) := dk_78 (dk_at dksX1_areChutes_3 15 rfl rfl)
theorem dX1_areChutes_87 : decode cX1_areChutes 87 = .ok (.iload_n 1, 1) := dk_27 (dk_at dksX1_areChutes_3 16 rfl rfl)
theorem dX1_areChutes_88 : decode cX1_areChutes 88 = .ok (.aload_n 3, 1) := dk_45 (dk_at dksX1_areChutes_3 17 rfl rfl)
theorem dX1_areChutes_89 : decode cX1_areChutes 89 = .ok (.iconst 2, 1) := dk_5 (dk_at dksX1_areChutes_3 18 rfl rfl)
theorem dX1_areChutes_90 : decode cX1_areChutes 90 = .ok (.iaload, 1) := dk_46 (dk_at dksX1_areChutes_3 19 rfl rfl)
theorem dX1_areChutes_91 : decode cX1_areChutes 91 = .ok (.aload_n 3, 1) := dk_45 (dk_at dksX1_areChutes_3 20 rfl rfl)
theorem dX1_areChutes_92 : decode cX1_areChutes 92 = .ok (.iconst 3, 1) := dk_6 (dk_at dksX1_areChutes_3 21 rfl rfl)
theorem dX1_areChutes_93 : decode cX1_areChutes 93 = .ok (.iaload, 1) := dk_46 (dk_at dksX1_areChutes_3 22 rfl rfl)
theorem dX1_areChutes_94 : decode cX1_areChutes 94 = .ok (.iadd, 1) := dk_96 (dk_at dksX1_areChutes_3 23 rfl rfl)
theorem dX1_areChutes_95 : decode cX1_areChutes 95 = .ok (.if_icmp .ne 48, 3) := dk_160 0 48 (dk_at dksX1_areChutes_4 0 rfl rfl)
theorem dX1_areChutes_98 : decode cX1_areChutes 98 = .ok (.iload_n 1, 1) := dk_27 (dk_at dksX1_areChutes_4 3 rfl rfl)
theorem dX1_areChutes_99 : decode cX1_areChutes 99 = .ok (.iload_n 2, 1) := dk_28 (dk_at dksX1_areChutes_4 4 rfl rfl)
theorem dX1_areChutes_100 : decode cX1_areChutes 100 = .ok (.aload_n 0, 1) := dk_42 (dk_at dksX1_areChutes_4 5 rfl rfl)
theorem dX1_areChutes_101 : decode cX1_areChutes 101 = .ok (.getfield 50, 3) := dk_180 0 50 (dk_at dksX1_areChutes_4 6 rfl rfl)
theorem dX1_areChutes_104 : decode cX1_areChutes 104 = .ok (.iconst 2, 1) := dk_5 (dk_at dksX1_areChutes_4 9 rfl rfl)
theorem dX1_areChutes_105 : decode cX1_areChutes 105 = .ok (.invokevirtual 193, 3) := dk_182 0 193 (dk_at dksX1_areChutes_4 10 rfl rfl)
theorem dX1_areChutes_108 : decode cX1_areChutes 108 = .ok (.iadd, 1) := dk_96 (dk_at dksX1_areChutes_4 13 rfl rfl)
theorem dX1_areChutes_109 : decode cX1_areChutes 109 = .ok (.if_icmp .ne 34, 3) := dk_160 0 34 (dk_at dksX1_areChutes_4 14 rfl rfl)
theorem dX1_areChutes_112 : decode cX1_areChutes 112 = .ok (.iload_n 2, 1) := dk_28 (dk_at dksX1_areChutes_4 17 rfl rfl)
theorem dX1_areChutes_113 : decode cX1_areChutes 113 = .ok (.aload_n 0, 1) := dk_42 (dk_at dksX1_areChutes_4 18 rfl rfl)
theorem dX1_areChutes_114 : decode cX1_areChutes 114 = .ok (.getfield 50, 3) := dk_180 0 50 (dk_at dksX1_areChutes_4 19 rfl rfl)
theorem dX1_areChutes_117 : decode cX1_areChutes 117 = .ok (.iconst 1, 1) := dk_4 (dk_at dksX1_areChutes_4 22 rfl rfl)
theorem dX1_areChutes_118 : decode cX1_areChutes 118 = .ok (.invokevirtual 193, 3) := dk_182 0 193 (dk_at dksX1_areChutes_5 0 rfl rfl)
theorem dX1_areChutes_121 : decode cX1_areChutes 121 = .ok (.if_icmp .ne 22, 3) := dk_160 0 22 (dk_at dksX1_areChutes_5 3 rfl rfl)
theorem dX1_areChutes_124 : decode cX1_areChutes 124 = .ok (.aload_n 3, 1) := dk_45 (dk_at dksX1_areChutes_5 6 rfl rfl)
theorem dX1_areChutes_125 : decode cX1_areChutes 125 = .ok (.bipush 10, 2) := dk_16 10 (dk_at dksX1_areChutes_5 7 rfl rfl)
theorem dX1_areChutes_127 : decode cX1_areChutes 127 = .ok (.iaload, 1) := dk_46 (dk_at dksX1_areChutes_5 9 rfl rfl)
theorem dX1_areChutes_128 : decode cX1_areChutes 128 = .ok (.aload_n 0, 1) := dk_42 (dk_at dksX1_areChutes_5 10 rfl rfl)
theorem dX1_areChutes_129 : decode cX1_areChutes 129 = .ok (.getfield 50, 3) := dk_180 0 50 (dk_at dksX1_areChutes_5 11 rfl rfl)
theorem dX1_areChutes_132 : decode cX1_areChutes 132 = .ok (.iconst 2, 1) := dk_5 (dk_at dksX1_areChutes_5 14 rfl rfl)
theorem dX1_areChutes_133 : decode cX1_areChutes 133 = .ok (.invokevirtual 193, 3) := dk_182 0 193 (dk_at dksX1_areChutes_5 15 rfl rfl)
theorem dX1_areChutes_136 : decode cX1_areChutes 136 = .ok (.if_icmp .ne 7, 3) := dk_160 0 7 (dk_at dksX1_areChutes_5 18 rfl rfl)
theorem dX1_areChutes_139 : decode cX1_areChutes 139 = .ok (.iconst 1, 1) := dk_4 (dk_at dksX1_areChutes_5 21 rfl rfl)
theorem dX1_areChutes_140 : decode cX1_areChutes 140 = .ok (.goto 4, 3) := dk_167 0 4 (dk_at dksX1_areChutes_6 0 rfl rfl)
theorem dX1_areChutes_143 : decode cX1_areChutes 143 = .ok (.iconst 0, 1) := dk_3 (dk_at dksX1_areChutes_6 3 rfl rfl)
theorem dX1_areChutes_144 : decode cX1_areChutes 144 = .ok (.ireturn, 1) := dk_172 (dk_at dksX1_areChutes_6 4 rfl rfl)
abbrev cX1_sortedPart : ByteArray := prog_1_method_60_code
def yX1_sortedPart : MethodName := ⟨RX1, "sortedPart", "()D"⟩
def dkwX1_sortedPart_1 : List UInt8 := [14, 167, 0, 16, 42, 180, 0, 50, 180, 0, 210, 5, 46, 135, 27, 135, 111, 175]
abbrev dktX1_sortedPart_1 : List UInt8 := dkwX1_sortedPart_1 ++ []
def dkwX1_sortedPart_0 : List UInt8 := [42, 180, 0, 50, 180, 0, 210, 5, 46, 42, 180, 0, 50, 180, 0, 210, 6, 46, 96, 60, 27, 154, 0, 7]
abbrev dktX1_sortedPart_0 : List UInt8 := dkwX1_sortedPart_0 ++ dktX1_sortedPart_1
theorem dksX1_sortedPart_0 : cX1_sortedPart.data.toList.drop 0 = dktX1_sortedPart_0 := by decide +kernel
theorem dksX1_sortedPart_1 : cX1_sortedPart.data.toList.drop 24 = dktX1_sortedPart_1 := dk_seg dksX1_sortedPart_0 24 rfl rfl
theorem dX1_sortedPart_0 : decode cX1_sortedPart 0 = .ok (.aload_n 0, 1) := dk_42 (dk_at dksX1_sortedPart_0 0 rfl rfl)
theorem dX1_sortedPart_1 : decode cX1_sortedPart 1 = .ok (.getfield 50, 3) := dk_180 0 50 (dk_at dksX1_sortedPart_0 1 rfl rfl)
theorem dX1_sortedPart_4 : decode cX1_sortedPart 4 = .ok (.getfield 210, 3) := dk_180 0 210 (dk_at dksX1_sortedPart_0 4 rfl rfl)
theorem dX1_sortedPart_7 : decode cX1_sortedPart 7 = .ok (.iconst 2, 1) := dk_5 (dk_at dksX1_sortedPart_0 7 rfl rfl)
theorem dX1_sortedPart_8 : decode cX1_sortedPart 8 = .ok (.iaload, 1) := dk_46 (dk_at dksX1_sortedPart_0 8 rfl rfl)
theorem dX1_sortedPart_9 : decode cX1_sortedPart 9 = .ok (.aload_n 0, 1) := dk_42 (dk_at dksX1_sortedPart_0 9 rfl rfl)
theorem dX1_sortedPart_10 : decode cX1_sortedPart 10 = .ok (.getfield 50, 3) := dk_180 0 50 (dk_at dksX1_sortedPart_0 10 rfl rfl)
theorem dX1_sortedPart_13 : decode cX1_sortedPart 13 = .ok (.getfield 210, 3) := dk_180 0 210 (dk_at dksX1_sortedPart_0 13 rfl rfl)
theorem dX1_sortedPart_16 : decode cX1_sortedPart 16 = .ok (.iconst 3, 1) := dk_6 (dk_at dksX1_sortedPart_0 16 rfl rfl)
theorem dX1_sortedPart_17 : decode cX1_sortedPart 17 = .ok (.iaload, 1) := dk_46 (dk_at dksX1_sortedPart_0 17 rfl rfl)
theorem dX1_sortedPart_18 : decode cX1_sortedPart 18 = .ok (.iadd, 1) := dk_96 (dk_at dksX1_sortedPart_0 18 rfl rfl)
theorem dX1_sortedPart_19 : decode cX1_sortedPart 19 = .ok (.istore_n 1, 1) := dk_60 (dk_at dksX1_sortedPart_0 19 rfl rfl)
theorem dX1_sortedPart_20 : decode cX1_sortedPart 20 = .ok (.iload_n 1, 1) := dk_27 (dk_at dksX1_sortedPart_0 20 rfl rfl)
theorem dX1_sortedPart_21 : decode cX1_sortedPart 21 = .ok (.ifCond .ne 7, 3) := dk_154 0 7 (dk_at dksX1_sortedPart_0 21 rfl rfl)
theorem dX1_sortedPart_24 : decode cX1_sortedPart 24 = .ok (.dconst 0, 1) := dk_14 (dk_at dksX1_sortedPart_1 0 rfl rfl)
theorem dX1_sortedPart_25 : decode cX1_sortedPart 25 = .ok (.goto 16, 3) := dk_167 0 16 (dk_at dksX1_sortedPart_1 1 rfl rfl)
theorem dX1_sortedPart_28 : decode cX1_sortedPart 28 = .ok (.aload_n 0, 1) := dk_42 (dk_at dksX1_sortedPart_1 4 rfl rfl)
theorem dX1_sortedPart_29 : decode cX1_sortedPart 29 = .ok (.getfield 50, 3) := dk_180 0 50 (dk_at dksX1_sortedPart_1 5 rfl rfl)
theorem dX1_sortedPart_32 : decode cX1_sortedPart 32 = .ok (.getfield 210, 3) := dk_180 0 210 (dk_at dksX1_sortedPart_1 8 rfl rfl)
theorem dX1_sortedPart_35 : decode cX1_sortedPart 35 = .ok (.iconst 2, 1) := dk_5 (dk_at dksX1_sortedPart_1 11 rfl rfl)
theorem dX1_sortedPart_36 : decode cX1_sortedPart 36 = .ok (.iaload, 1) := dk_46 (dk_at dksX1_sortedPart_1 12 rfl rfl)
theorem dX1_sortedPart_37 : decode cX1_sortedPart 37 = .ok (.i2d, 1) := dk_135 (dk_at dksX1_sortedPart_1 13 rfl rfl)
theorem dX1_sortedPart_38 : decode cX1_sortedPart 38 = .ok (.iload_n 1, 1) := dk_27 (dk_at dksX1_sortedPart_1 14 rfl rfl)
theorem dX1_sortedPart_39 : decode cX1_sortedPart 39 = .ok (.i2d, 1) := dk_135 (dk_at dksX1_sortedPart_1 15 rfl rfl)
theorem dX1_sortedPart_40 : decode cX1_sortedPart 40 = .ok (.ddiv, 1) := dk_111 (dk_at dksX1_sortedPart_1 16 rfl rfl)
theorem dX1_sortedPart_41 : decode cX1_sortedPart 41 = .ok (.dreturn, 1) := dk_175 (dk_at dksX1_sortedPart_1 17 rfl rfl)
abbrev cX1_load : ByteArray := prog_1_method_61_code
def yX1_load : MethodName := ⟨RX1, "load", "()F"⟩
def dkwX1_load_0 : List UInt8 := [42, 180, 0, 50, 3, 182, 0, 193, 134, 42, 180, 0, 50, 180, 0, 178, 134, 110, 174]
abbrev dktX1_load_0 : List UInt8 := dkwX1_load_0 ++ []
theorem dksX1_load_0 : cX1_load.data.toList.drop 0 = dktX1_load_0 := by decide +kernel
theorem dX1_load_0 : decode cX1_load 0 = .ok (.aload_n 0, 1) := dk_42 (dk_at dksX1_load_0 0 rfl rfl)
theorem dX1_load_1 : decode cX1_load 1 = .ok (.getfield 50, 3) := dk_180 0 50 (dk_at dksX1_load_0 1 rfl rfl)
theorem dX1_load_4 : decode cX1_load 4 = .ok (.iconst 0, 1) := dk_3 (dk_at dksX1_load_0 4 rfl rfl)
theorem dX1_load_5 : decode cX1_load 5 = .ok (.invokevirtual 193, 3) := dk_182 0 193 (dk_at dksX1_load_0 5 rfl rfl)
theorem dX1_load_8 : decode cX1_load 8 = .ok (.i2f, 1) := dk_134 (dk_at dksX1_load_0 8 rfl rfl)
theorem dX1_load_9 : decode cX1_load 9 = .ok (.aload_n 0, 1) := dk_42 (dk_at dksX1_load_0 9 rfl rfl)
theorem dX1_load_10 : decode cX1_load 10 = .ok (.getfield 50, 3) := dk_180 0 50 (dk_at dksX1_load_0 10 rfl rfl)
theorem dX1_load_13 : decode cX1_load 13 = .ok (.getfield 178, 3) := dk_180 0 178 (dk_at dksX1_load_0 13 rfl rfl)
theorem dX1_load_16 : decode cX1_load 16 = .ok (.i2f, 1) := dk_134 (dk_at dksX1_load_0 16 rfl rfl)
theorem dX1_load_17 : decode cX1_load 17 = .ok (.fdiv, 1) := dk_110 (dk_at dksX1_load_0 17 rfl rfl)
theorem dX1_load_18 : decode cX1_load 18 = .ok (.freturn, 1) := dk_174 (dk_at dksX1_load_0 18 rfl rfl)
abbrev cX1_printLoop : ByteArray := prog_1_method_71_code
def yX1_printLoop : MethodName := ⟨RX1, "printLoop", "()I"⟩
def dkwX1_printLoop_2 : List UInt8 := [87, 132, 1, 1, 167, 255, 216, 42, 180, 0, 46, 182, 1, 190, 172]
abbrev dktX1_printLoop_2 : List UInt8 := dkwX1_printLoop_2 ++ []
def dkwX1_printLoop_1 : List UInt8 := [180, 0, 46, 42, 42, 180, 0, 50, 180, 0, 227, 27, 182, 0, 231, 192, 0, 162, 182, 1, 182, 182, 1, 186]
abbrev dktX1_printLoop_1 : List UInt8 := dkwX1_printLoop_1 ++ dktX1_printLoop_2
def dkwX1_printLoop_0 : List UInt8 := [42, 180, 0, 46, 3, 182, 1, 179, 3, 60, 27, 42, 180, 0, 50, 180, 0, 178, 162, 0, 35, 42]
abbrev dktX1_printLoop_0 : List UInt8 := dkwX1_printLoop_0 ++ dktX1_printLoop_1
theorem dksX1_printLoop_0 : cX1_printLoop.data.toList.drop 0 = dktX1_printLoop_0 := by decide +kernel
theorem dksX1_printLoop_1 : cX1_printLoop.data.toList.drop 22 = dktX1_printLoop_1 := dk_seg dksX1_printLoop_0 22 rfl rfl
theorem dksX1_printLoop_2 : cX1_printLoop.data.toList.drop 46 = dktX1_printLoop_2 := dk_seg dksX1_printLoop_1 24 rfl rfl
theorem dX1_printLoop_0 : decode cX1_printLoop 0 = .ok (.aload_n 0, 1) := dk_42 (dk_at dksX1_printLoop_0 0 rfl rfl)
theorem dX1_printLoop_1 : decode cX1_printLoop 1 = .ok (.getfield 46, 3) := dk_180 0 46 (dk_at dksX1_printLoop_0 1 rfl rfl)
theorem dX1_printLoop_4 : decode cX1_printLoop 4 = .ok (.iconst 0, 1) := dk_3 (dk_at dksX1_printLoop_0 4 rfl rfl)
theorem dX1_printLoop_5 : decode cX1_printLoop 5 = .ok (.invokevirtual 435, 3) := dk_182 1 179 (dk_at dksX1_printLoop_0 5 rfl rfl)
theorem dX1_printLoop_8 : decode cX1_printLoop 8 = .ok (.iconst 0, 1) := dk_3 (dk_at dksX1_printLoop_0 8 rfl rfl)
theorem dX1_printLoop_9 : decode cX1_printLoop 9 = .ok (.istore_n 1, 1) := dk_60 (dk_at dksX1_printLoop_0 9 rfl rfl)
theorem dX1_printLoop_10 : decode cX1_printLoop 10 = .ok (.iload_n 1, 1) := dk_27 (dk_at dksX1_printLoop_0 10 rfl rfl)
theorem dX1_printLoop_11 : decode cX1_printLoop 11 = .ok (.aload_n 0, 1) := dk_42 (dk_at dksX1_printLoop_0 11 rfl rfl)
theorem dX1_printLoop_12 : decode cX1_printLoop 12 = .ok (.getfield 50, 3) := dk_180 0 50 (dk_at dksX1_printLoop_0 12 rfl rfl)
theorem dX1_printLoop_15 : decode cX1_printLoop 15 = .ok (.getfield 178, 3) := dk_180 0 178 (dk_at dksX1_printLoop_0 15 rfl rfl)
theorem dX1_printLoop_18 : decode cX1_printLoop 18 = .ok (.if_icmp .ge 35, 3) := dk_162 0 35 (dk_at dksX1_printLoop_0 18 rfl rfl)
theorem dX1_printLoop_21 : decode cX1_printLoop 21 = .ok (.aload_n 0, 1) := dk_42 (dk_at dksX1_printLoop_0 21 rfl rfl)
theorem dX1_printLoop_22 : decode cX1_printLoop 22 = .ok (.getfield 46, 3) := dk_180 0 46 (dk_at dksX1_printLoop_1 0 rfl rfl)
theorem dX1_printLoop_25 : decode cX1_printLoop 25 = .ok (.aload_n 0, 1) := dk_42 (dk_at dksX1_printLoop_1 3 rfl rfl)
theorem dX1_printLoop_26 : decode cX1_printLoop 26 = .ok (.aload_n 0, 1) := dk_42 (dk_at dksX1_printLoop_1 4 rfl rfl)
theorem dX1_printLoop_27 : decode cX1_printLoop 27 = .ok (.getfield 50, 3) := dk_180 0 50 (dk_at dksX1_printLoop_1 5 rfl rfl)
theorem dX1_printLoop_30 : decode cX1_printLoop 30 = .ok (.getfield 227, 3) := dk_180 0 227 (dk_at dksX1_printLoop_1 8 rfl rfl)
theorem dX1_printLoop_33 : decode cX1_printLoop 33 = .ok (.iload_n 1, 1) := dk_27 (dk_at dksX1_printLoop_1 11 rfl rfl)
theorem dX1_printLoop_34 : decode cX1_printLoop 34 = .ok (.invokevirtual 231, 3) := dk_182 0 231 (dk_at dksX1_printLoop_1 12 rfl rfl)
theorem dX1_printLoop_37 : decode cX1_printLoop 37 = .ok (.checkcast 162, 3) := dk_192 0 162 (dk_at dksX1_printLoop_1 15 rfl rfl)
theorem dX1_printLoop_40 : decode cX1_printLoop 40 = .ok (.invokevirtual 438, 3) := dk_182 1 182 (dk_at dksX1_printLoop_1 18 rfl rfl)
theorem dX1_printLoop_43 : decode cX1_printLoop 43 = .ok (.invokevirtual 442, 3) := dk_182 1 186 (dk_at dksX1_printLoop_1 21 rfl rfl)
theorem dX1_printLoop_46 : decode cX1_printLoop 46 = .ok (.pop, 1) := dk_87 (dk_at dksX1_printLoop_2 0 rfl rfl)
theorem dX1_printLoop_47 : decode cX1_printLoop 47 = .ok (.iinc 1 1, 3) := dk_132 1 1 (dk_at dksX1_printLoop_2 1 rfl rfl)
theorem dX1_printLoop_50 : decode cX1_printLoop 50 = .ok (.goto (-40), 3) := dk_167 255 216 (dk_at dksX1_printLoop_2 4 rfl rfl)
theorem dX1_printLoop_53 : decode cX1_printLoop 53 = .ok (.aload_n 0, 1) := dk_42 (dk_at dksX1_printLoop_2 7 rfl rfl)
theorem dX1_printLoop_54 : decode cX1_printLoop 54 = .ok (.getfield 46, 3) := dk_180 0 46 (dk_at dksX1_printLoop_2 8 rfl rfl)
theorem dX1_printLoop_57 : decode cX1_printLoop 57 = .ok (.invokevirtual 446, 3) := dk_182 1 190 (dk_at dksX1_printLoop_2 11 rfl rfl)
theorem dX1_printLoop_60 : decode cX1_printLoop 60 = .ok (.ireturn, 1) := dk_172 (dk_at dksX1_printLoop_2 14 rfl rfl)
abbrev cX1_sign : ByteArray := prog_1_method_70_code
def yX1_sign : MethodName := ⟨RX1, "sign", "(LSortingLoop$Parcel;)C"⟩
def dkwX1_sign_1 : List UInt8 := [182, 0, 174, 154, 0, 14, 16, 48, 43, 180, 0, 252, 96, 146, 167, 0, 5, 16, 33, 172]
abbrev dktX1_sign_1 : List UInt8 := dkwX1_sign_1 ++ []
def dkwX1_sign_0 : List UInt8 := [43, 199, 0, 6, 16, 46, 172, 43, 180, 0, 255, 158, 0, 6, 16, 63, 172, 42, 180, 0, 50, 43]
abbrev dktX1_sign_0 : List UInt8 := dkwX1_sign_0 ++ dktX1_sign_1
theorem dksX1_sign_0 : cX1_sign.data.toList.drop 0 = dktX1_sign_0 := by decide +kernel
theorem dksX1_sign_1 : cX1_sign.data.toList.drop 22 = dktX1_sign_1 := dk_seg dksX1_sign_0 22 rfl rfl
theorem dX1_sign_0 : decode cX1_sign 0 = .ok (.aload_n 1, 1) := dk_43 (dk_at dksX1_sign_0 0 rfl rfl)
theorem dX1_sign_1 : decode cX1_sign 1 = .ok (.ifnonnull 6, 3) := dk_199 0 6 (dk_at dksX1_sign_0 1 rfl rfl)
theorem dX1_sign_4 : decode cX1_sign 4 = .ok (.bipush 46, 2) := dk_16 46 (dk_at dksX1_sign_0 4 rfl rfl)
theorem dX1_sign_6 : decode cX1_sign 6 = .ok (.ireturn, 1) := dk_172 (dk_at dksX1_sign_0 6 rfl rfl)
theorem dX1_sign_7 : decode cX1_sign 7 = .ok (.aload_n 1, 1) := dk_43 (dk_at dksX1_sign_0 7 rfl rfl)
theorem dX1_sign_8 : decode cX1_sign 8 = .ok (.getfield 255, 3) := dk_180 0 255 (dk_at dksX1_sign_0 8 rfl rfl)
theorem dX1_sign_11 : decode cX1_sign 11 = .ok (.ifCond .le 6, 3) := dk_158 0 6 (dk_at dksX1_sign_0 11 rfl rfl)
theorem dX1_sign_14 : decode cX1_sign 14 = .ok (.bipush 63, 2) := dk_16 63 (dk_at dksX1_sign_0 14 rfl rfl)
theorem dX1_sign_16 : decode cX1_sign 16 = .ok (.ireturn, 1) := dk_172 (dk_at dksX1_sign_0 16 rfl rfl)
theorem dX1_sign_17 : decode cX1_sign 17 = .ok (.aload_n 0, 1) := dk_42 (dk_at dksX1_sign_0 17 rfl rfl)
theorem dX1_sign_18 : decode cX1_sign 18 = .ok (.getfield 50, 3) := dk_180 0 50 (dk_at dksX1_sign_0 18 rfl rfl)
theorem dX1_sign_21 : decode cX1_sign 21 = .ok (.aload_n 1, 1) := dk_43 (dk_at dksX1_sign_0 21 rfl rfl)
theorem dX1_sign_22 : decode cX1_sign 22 = .ok (.invokevirtual 174, 3) := dk_182 0 174 (dk_at dksX1_sign_1 0 rfl rfl)
theorem dX1_sign_25 : decode cX1_sign 25 = .ok (.ifCond .ne 14, 3) := dk_154 0 14 (dk_at dksX1_sign_1 3 rfl rfl)
theorem dX1_sign_28 : decode cX1_sign 28 = .ok (.bipush 48, 2) := dk_16 48 (dk_at dksX1_sign_1 6 rfl rfl)
theorem dX1_sign_30 : decode cX1_sign 30 = .ok (.aload_n 1, 1) := dk_43 (dk_at dksX1_sign_1 8 rfl rfl)
theorem dX1_sign_31 : decode cX1_sign 31 = .ok (.getfield 252, 3) := dk_180 0 252 (dk_at dksX1_sign_1 9 rfl rfl)
theorem dX1_sign_34 : decode cX1_sign 34 = .ok (.iadd, 1) := dk_96 (dk_at dksX1_sign_1 12 rfl rfl)
theorem dX1_sign_35 : decode cX1_sign 35 = .ok (.i2c, 1) := dk_146 (dk_at dksX1_sign_1 13 rfl rfl)
theorem dX1_sign_36 : decode cX1_sign 36 = .ok (.goto 5, 3) := dk_167 0 5 (dk_at dksX1_sign_1 14 rfl rfl)
theorem dX1_sign_39 : decode cX1_sign 39 = .ok (.bipush 33, 2) := dk_16 33 (dk_at dksX1_sign_1 17 rfl rfl)
theorem dX1_sign_41 : decode cX1_sign 41 = .ok (.ireturn, 1) := dk_172 (dk_at dksX1_sign_1 19 rfl rfl)
abbrev cX1_printChutes : ByteArray := prog_1_method_72_code
def yX1_printChutes : MethodName := ⟨RX1, "printChutes", "()I"⟩
def dkwX1_printChutes_6 : List UInt8 := [62, 167, 255, 205, 132, 1, 1, 167, 255, 121, 42, 180, 0, 46, 182, 1, 190, 172]
abbrev dktX1_printChutes_6 : List UInt8 := dkwX1_printChutes_6 ++ []
def dkwX1_printChutes_5 : List UInt8 := [42, 180, 0, 46, 16, 44, 182, 1, 186, 87, 42, 180, 0, 46, 25, 5, 180, 1, 47, 182, 1, 193, 87, 3]
abbrev dktX1_printChutes_5 : List UInt8 := dkwX1_printChutes_5 ++ dktX1_printChutes_6
def dkwX1_printChutes_4 : List UInt8 := [185, 1, 200, 1, 0, 153, 0, 47, 25, 4, 185, 1, 205, 1, 0, 192, 0, 162, 58, 5, 29, 154, 0, 13]
abbrev dktX1_printChutes_4 : List UInt8 := dkwX1_printChutes_4 ++ dktX1_printChutes_5
def dkwX1_printChutes_3 : List UInt8 := [16, 120, 182, 1, 186, 87, 4, 62, 44, 180, 1, 35, 185, 1, 196, 1, 0, 58, 4, 25, 4]
abbrev dktX1_printChutes_3 : List UInt8 := dkwX1_printChutes_3 ++ dktX1_printChutes_4
def dkwX1_printChutes_2 : List UInt8 := [182, 1, 186, 87, 42, 180, 0, 46, 27, 182, 1, 193, 44, 180, 1, 31, 153, 0, 8, 16, 58, 167, 0, 5]
abbrev dktX1_printChutes_2 : List UInt8 := dkwX1_printChutes_2 ++ dktX1_printChutes_3
def dkwX1_printChutes_1 : List UInt8 := [162, 0, 125, 42, 180, 0, 50, 27, 182, 0, 217, 77, 27, 158, 0, 13, 42, 180, 0, 46, 16, 32]
abbrev dktX1_printChutes_1 : List UInt8 := dkwX1_printChutes_1 ++ dktX1_printChutes_2
def dkwX1_printChutes_0 : List UInt8 := [42, 180, 0, 46, 3, 182, 1, 179, 3, 60, 27, 42, 180, 0, 50, 180, 0, 69, 185, 0, 123, 1, 0]
abbrev dktX1_printChutes_0 : List UInt8 := dkwX1_printChutes_0 ++ dktX1_printChutes_1
theorem dksX1_printChutes_0 : cX1_printChutes.data.toList.drop 0 = dktX1_printChutes_0 := by decide +kernel
theorem dksX1_printChutes_1 : cX1_printChutes.data.toList.drop 23 = dktX1_printChutes_1 := dk_seg dksX1_printChutes_0 23 rfl rfl
theorem dksX1_printChutes_2 : cX1_printChutes.data.toList.drop 45 = dktX1_printChutes_2 := dk_seg dksX1_printChutes_1 22 rfl rfl
theorem dksX1_printChutes_3 : cX1_printChutes.data.toList.drop 69 = dktX1_printChutes_3 := dk_seg dksX1_printChutes_2 24 rfl rfl
theorem dksX1_printChutes_4 : cX1_printChutes.data.toList.drop 90 = dktX1_printChutes_4 := dk_seg dksX1_printChutes_3 21 rfl rfl
theorem dksX1_printChutes_5 : cX1_printChutes.data.toList.drop 114 = dktX1_printChutes_5 := dk_seg dksX1_printChutes_4 24 rfl rfl
theorem dksX1_printChutes_6 : cX1_printChutes.data.toList.drop 138 = dktX1_printChutes_6 := dk_seg dksX1_printChutes_5 24 rfl rfl
theorem dX1_printChutes_0 : decode cX1_printChutes 0 = .ok (.aload_n 0, 1) := dk_42 (dk_at dksX1_printChutes_0 0 rfl rfl)
theorem dX1_printChutes_1 : decode cX1_printChutes 1 = .ok (.getfield 46, 3) := dk_180 0 46 (dk_at dksX1_printChutes_0 1 rfl rfl)
theorem dX1_printChutes_4 : decode cX1_printChutes 4 = .ok (.iconst 0, 1) := dk_3 (dk_at dksX1_printChutes_0 4 rfl rfl)
theorem dX1_printChutes_5 : decode cX1_printChutes 5 = .ok (.invokevirtual 435, 3) := dk_182 1 179 (dk_at dksX1_printChutes_0 5 rfl rfl)
theorem dX1_printChutes_8 : decode cX1_printChutes 8 = .ok (.iconst 0, 1) := dk_3 (dk_at dksX1_printChutes_0 8 rfl rfl)
theorem dX1_printChutes_9 : decode cX1_printChutes 9 = .ok (.istore_n 1, 1) := dk_60 (dk_at dksX1_printChutes_0 9 rfl rfl)
theorem dX1_printChutes_10 : decode cX1_printChutes 10 = .ok (.iload_n 1, 1) := dk_27 (dk_at dksX1_printChutes_0 10 rfl rfl)
theorem dX1_printChutes_11 : decode cX1_printChutes 11 = .ok (.aload_n 0, 1) := dk_42 (dk_at dksX1_printChutes_0 11 rfl rfl)
theorem dX1_printChutes_12 : decode cX1_printChutes 12 = .ok (.getfield 50, 3) := dk_180 0 50 (dk_at dksX1_printChutes_0 12 rfl rfl)
theorem dX1_printChutes_15 : decode cX1_printChutes 15 = .ok (.getfield 69, 3) := dk_180 0 69 (dk_at dksX1_printChutes_0 15 rfl rfl)
theorem dX1_printChutes_18 : decode cX1_printChutes 18 = .ok (.invokeinterface 123 1, 5) := by decide +kernel
theorem dX1_printChutes_23 : decode cX1_printChutes 23 = .ok (.if_icmp .ge 125, 3) := dk_162 0 125 (dk_at dksX1_printChutes_1 0 rfl rfl)
theorem dX1_printChutes_26 : decode cX1_printChutes 26 = .ok (.aload_n 0, 1) := dk_42 (dk_at dksX1_printChutes_1 3 rfl rfl)
theorem dX1_printChutes_27 : decode cX1_printChutes 27 = .ok (.getfield 50, 3) := dk_180 0 50 (dk_at dksX1_printChutes_1 4 rfl rfl)
theorem dX1_printChutes_30 : decode cX1_printChutes 30 = .ok (.iload_n 1, 1) := dk_27 (dk_at dksX1_printChutes_1 7 rfl rfl)
theorem dX1_printChutes_31 : decode cX1_printChutes 31 = .ok (.invokevirtual 217, 3) := dk_182 0 217 (dk_at dksX1_printChutes_1 8 rfl rfl)
theorem dX1_printChutes_34 : decode cX1_printChutes 34 = .ok (.astore_n 2, 1) := dk_77 (dk_at dksX1_printChutes_1 11 rfl rfl)
theorem dX1_printChutes_35 : decode cX1_printChutes 35 = .ok (.iload_n 1, 1) := dk_27 (dk_at dksX1_printChutes_1 12 rfl rfl)
theorem dX1_printChutes_36 : decode cX1_printChutes 36 = .ok (.ifCond .le 13, 3) := dk_158 0 13 (dk_at dksX1_printChutes_1 13 rfl rfl)
theorem dX1_printChutes_39 : decode cX1_printChutes 39 = .ok (.aload_n 0, 1) := dk_42 (dk_at dksX1_printChutes_1 16 rfl rfl)
theorem dX1_printChutes_40 : decode cX1_printChutes 40 = .ok (.getfield 46, 3) := dk_180 0 46 (dk_at dksX1_printChutes_1 17 rfl rfl)
theorem dX1_printChutes_43 : decode cX1_printChutes 43 = .ok (.bipush 32, 2) := dk_16 32 (dk_at dksX1_printChutes_1 20 rfl rfl)
theorem dX1_printChutes_45 : decode cX1_printChutes 45 = .ok (.invokevirtual 442, 3) := dk_182 1 186 (dk_at dksX1_printChutes_2 0 rfl rfl)
theorem dX1_printChutes_48 : decode cX1_printChutes 48 = .ok (.pop, 1) := dk_87 (dk_at dksX1_printChutes_2 3 rfl rfl)
theorem dX1_printChutes_49 : decode cX1_printChutes 49 = .ok (.aload_n 0, 1) := dk_42 (dk_at dksX1_printChutes_2 4 rfl rfl)
theorem dX1_printChutes_50 : decode cX1_printChutes 50 = .ok (.getfield 46, 3) := dk_180 0 46 (dk_at dksX1_printChutes_2 5 rfl rfl)
theorem dX1_printChutes_53 : decode cX1_printChutes 53 = .ok (.iload_n 1, 1) := dk_27 (dk_at dksX1_printChutes_2 8 rfl rfl)
theorem dX1_printChutes_54 : decode cX1_printChutes 54 = .ok (.invokevirtual 449, 3) := dk_182 1 193 (dk_at dksX1_printChutes_2 9 rfl rfl)
theorem dX1_printChutes_57 : decode cX1_printChutes 57 = .ok (.aload_n 2, 1) := dk_44 (dk_at dksX1_printChutes_2 12 rfl rfl)
theorem dX1_printChutes_58 : decode cX1_printChutes 58 = .ok (.getfield 287, 3) := dk_180 1 31 (dk_at dksX1_printChutes_2 13 rfl rfl)
theorem dX1_printChutes_61 : decode cX1_printChutes 61 = .ok (.ifCond .eq 8, 3) := dk_153 0 8 (dk_at dksX1_printChutes_2 16 rfl rfl)
theorem dX1_printChutes_64 : decode cX1_printChutes 64 = .ok (.bipush 58, 2) := dk_16 58 (dk_at dksX1_printChutes_2 19 rfl rfl)
theorem dX1_printChutes_66 : decode cX1_printChutes 66 = .ok (.goto 5, 3) := dk_167 0 5 (dk_at dksX1_printChutes_2 21 rfl rfl)
theorem dX1_printChutes_69 : decode cX1_printChutes 69 = .ok (.bipush 120, 2) := dk_16 120 (dk_at dksX1_printChutes_3 0 rfl rfl)
theorem dX1_printChutes_71 : decode cX1_printChutes 71 = .ok (.invokevirtual 442, 3) := dk_182 1 186 (dk_at dksX1_printChutes_3 2 rfl rfl)
theorem dX1_printChutes_74 : decode cX1_printChutes 74 = .ok (.pop, 1) := dk_87 (dk_at dksX1_printChutes_3 5 rfl rfl)
theorem dX1_printChutes_75 : decode cX1_printChutes 75 = .ok (.iconst 1, 1) := dk_4 (dk_at dksX1_printChutes_3 6 rfl rfl)
theorem dX1_printChutes_76 : decode cX1_printChutes 76 = .ok (.istore_n 3, 1) := dk_62 (dk_at dksX1_printChutes_3 7 rfl rfl)
theorem dX1_printChutes_77 : decode cX1_printChutes 77 = .ok (.aload_n 2, 1) := dk_44 (dk_at dksX1_printChutes_3 8 rfl rfl)
theorem dX1_printChutes_78 : decode cX1_printChutes 78 = .ok (.getfield 291, 3) := dk_180 1 35 (dk_at dksX1_printChutes_3 9 rfl rfl)
theorem dX1_printChutes_81 : decode cX1_printChutes 81 = .ok (.invokeinterface 452 1, 5) := by decide +kernel
theorem dX1_printChutes_86 : decode cX1_printChutes 86 = .ok (.astore 4, 2) := dk_58 4 (dk_at dksX1_printChutes_3 17 rfl rfl)
theorem dX1_printChutes_88 : decode cX1_printChutes 88 = .ok (.aload 4, 2) := dk_25 4 (dk_at dksX1_printChutes_3 19 rfl rfl)
theorem dX1_printChutes_90 : decode cX1_printChutes 90 = .ok (.invokeinterface 456 1, 5) := by decide +kernel
theorem dX1_printChutes_95 : decode cX1_printChutes 95 = .ok (.ifCond .eq 47, 3) := dk_153 0 47 (dk_at dksX1_printChutes_4 5 rfl rfl)
theorem dX1_printChutes_98 : decode cX1_printChutes 98 = .ok (.aload 4, 2) := dk_25 4 (dk_at dksX1_printChutes_4 8 rfl rfl)
theorem dX1_printChutes_100 : decode cX1_printChutes 100 = .ok (.invokeinterface 461 1, 5) := by decide +kernel
theorem dX1_printChutes_105 : decode cX1_printChutes 105 = .ok (.checkcast 162, 3) := dk_192 0 162 (dk_at dksX1_printChutes_4 15 rfl rfl)
theorem dX1_printChutes_108 : decode cX1_printChutes 108 = .ok (.astore 5, 2) := dk_58 5 (dk_at dksX1_printChutes_4 18 rfl rfl)
theorem dX1_printChutes_110 : decode cX1_printChutes 110 = .ok (.iload_n 3, 1) := dk_29 (dk_at dksX1_printChutes_4 20 rfl rfl)
theorem dX1_printChutes_111 : decode cX1_printChutes 111 = .ok (.ifCond .ne 13, 3) := dk_154 0 13 (dk_at dksX1_printChutes_4 21 rfl rfl)
theorem dX1_printChutes_114 : decode cX1_printChutes 114 = .ok (.aload_n 0, 1) := dk_42 (dk_at dksX1_printChutes_5 0 rfl rfl)
theorem dX1_printChutes_115 : decode cX1_printChutes 115 = .ok (.getfield 46, 3) := dk_180 0 46 (dk_at dksX1_printChutes_5 1 rfl rfl)
theorem dX1_printChutes_118 : decode cX1_printChutes 118 = .ok (.bipush 44, 2) := dk_16 44 (dk_at dksX1_printChutes_5 4 rfl rfl)
theorem dX1_printChutes_120 : decode cX1_printChutes 120 = .ok (.invokevirtual 442, 3) := dk_182 1 186 (dk_at dksX1_printChutes_5 6 rfl rfl)
theorem dX1_printChutes_123 : decode cX1_printChutes 123 = .ok (.pop, 1) := dk_87 (dk_at dksX1_printChutes_5 9 rfl rfl)
theorem dX1_printChutes_124 : decode cX1_printChutes 124 = .ok (.aload_n 0, 1) := dk_42 (dk_at dksX1_printChutes_5 10 rfl rfl)
theorem dX1_printChutes_125 : decode cX1_printChutes 125 = .ok (.getfield 46, 3) := dk_180 0 46 (dk_at dksX1_printChutes_5 11 rfl rfl)
theorem dX1_printChutes_128 : decode cX1_printChutes 128 = .ok (.aload 5, 2) := dk_25 5 (dk_at dksX1_printChutes_5 14 rfl rfl)
theorem dX1_printChutes_130 : decode cX1_printChutes 130 = .ok (.getfield 303, 3) := dk_180 1 47 (dk_at dksX1_printChutes_5 16 rfl rfl)
theorem dX1_printChutes_133 : decode cX1_printChutes 133 = .ok (.invokevirtual 449, 3) := dk_182 1 193 (dk_at dksX1_printChutes_5 19 rfl rfl)
theorem dX1_printChutes_136 : decode cX1_printChutes 136 = .ok (.pop, 1) := dk_87 (dk_at dksX1_printChutes_5 22 rfl rfl)
theorem dX1_printChutes_137 : decode cX1_printChutes 137 = .ok (.iconst 0, 1) := dk_3 (dk_at dksX1_printChutes_5 23 rfl rfl)
theorem dX1_printChutes_138 : decode cX1_printChutes 138 = .ok (.istore_n 3, 1) := dk_62 (dk_at dksX1_printChutes_6 0 rfl rfl)
theorem dX1_printChutes_139 : decode cX1_printChutes 139 = .ok (.goto (-51), 3) := dk_167 255 205 (dk_at dksX1_printChutes_6 1 rfl rfl)
theorem dX1_printChutes_142 : decode cX1_printChutes 142 = .ok (.iinc 1 1, 3) := dk_132 1 1 (dk_at dksX1_printChutes_6 4 rfl rfl)
theorem dX1_printChutes_145 : decode cX1_printChutes 145 = .ok (.goto (-135), 3) := dk_167 255 121 (dk_at dksX1_printChutes_6 7 rfl rfl)
theorem dX1_printChutes_148 : decode cX1_printChutes 148 = .ok (.aload_n 0, 1) := dk_42 (dk_at dksX1_printChutes_6 10 rfl rfl)
theorem dX1_printChutes_149 : decode cX1_printChutes 149 = .ok (.getfield 46, 3) := dk_180 0 46 (dk_at dksX1_printChutes_6 11 rfl rfl)
theorem dX1_printChutes_152 : decode cX1_printChutes 152 = .ok (.invokevirtual 446, 3) := dk_182 1 190 (dk_at dksX1_printChutes_6 14 rfl rfl)
theorem dX1_printChutes_155 : decode cX1_printChutes 155 = .ok (.ireturn, 1) := dk_172 (dk_at dksX1_printChutes_6 17 rfl rfl)
abbrev cX1_outputByte : ByteArray := prog_1_method_73_code
def yX1_outputByte : MethodName := ⟨RX1, "outputByte", "(I)I"⟩
def dkwX1_outputByte_1 : List UInt8 := [182, 1, 208, 167, 0, 4, 2, 172]
abbrev dktX1_outputByte_1 : List UInt8 := dkwX1_outputByte_1 ++ []
def dkwX1_outputByte_0 : List UInt8 := [27, 133, 9, 42, 180, 0, 46, 182, 1, 190, 4, 100, 133, 184, 0, 91, 153, 0, 14, 42, 180, 0, 46, 27]
abbrev dktX1_outputByte_0 : List UInt8 := dkwX1_outputByte_0 ++ dktX1_outputByte_1
theorem dksX1_outputByte_0 : cX1_outputByte.data.toList.drop 0 = dktX1_outputByte_0 := by decide +kernel
theorem dksX1_outputByte_1 : cX1_outputByte.data.toList.drop 24 = dktX1_outputByte_1 := dk_seg dksX1_outputByte_0 24 rfl rfl
theorem dX1_outputByte_0 : decode cX1_outputByte 0 = .ok (.iload_n 1, 1) := dk_27 (dk_at dksX1_outputByte_0 0 rfl rfl)
theorem dX1_outputByte_1 : decode cX1_outputByte 1 = .ok (.i2l, 1) := dk_133 (dk_at dksX1_outputByte_0 1 rfl rfl)
theorem dX1_outputByte_2 : decode cX1_outputByte 2 = .ok (.lconst 0, 1) := dk_9 (dk_at dksX1_outputByte_0 2 rfl rfl)
theorem dX1_outputByte_3 : decode cX1_outputByte 3 = .ok (.aload_n 0, 1) := dk_42 (dk_at dksX1_outputByte_0 3 rfl rfl)
theorem dX1_outputByte_4 : decode cX1_outputByte 4 = .ok (.getfield 46, 3) := dk_180 0 46 (dk_at dksX1_outputByte_0 4 rfl rfl)
theorem dX1_outputByte_7 : decode cX1_outputByte 7 = .ok (.invokevirtual 446, 3) := dk_182 1 190 (dk_at dksX1_outputByte_0 7 rfl rfl)
theorem dX1_outputByte_10 : decode cX1_outputByte 10 = .ok (.iconst 1, 1) := dk_4 (dk_at dksX1_outputByte_0 10 rfl rfl)
theorem dX1_outputByte_11 : decode cX1_outputByte 11 = .ok (.isub, 1) := dk_100 (dk_at dksX1_outputByte_0 11 rfl rfl)
theorem dX1_outputByte_12 : decode cX1_outputByte 12 = .ok (.i2l, 1) := dk_133 (dk_at dksX1_outputByte_0 12 rfl rfl)
theorem dX1_outputByte_13 : decode cX1_outputByte 13 = .ok (.invokestatic 91, 3) := dk_184 0 91 (dk_at dksX1_outputByte_0 13 rfl rfl)
theorem dX1_outputByte_16 : decode cX1_outputByte 16 = .ok (.ifCond .eq 14, 3) := dk_153 0 14 (dk_at dksX1_outputByte_0 16 rfl rfl)
theorem dX1_outputByte_19 : decode cX1_outputByte 19 = .ok (.aload_n 0, 1) := dk_42 (dk_at dksX1_outputByte_0 19 rfl rfl)
theorem dX1_outputByte_20 : decode cX1_outputByte 20 = .ok (.getfield 46, 3) := dk_180 0 46 (dk_at dksX1_outputByte_0 20 rfl rfl)
theorem dX1_outputByte_23 : decode cX1_outputByte 23 = .ok (.iload_n 1, 1) := dk_27 (dk_at dksX1_outputByte_0 23 rfl rfl)
theorem dX1_outputByte_24 : decode cX1_outputByte 24 = .ok (.invokevirtual 464, 3) := dk_182 1 208 (dk_at dksX1_outputByte_1 0 rfl rfl)
theorem dX1_outputByte_27 : decode cX1_outputByte 27 = .ok (.goto 4, 3) := dk_167 0 4 (dk_at dksX1_outputByte_1 3 rfl rfl)
theorem dX1_outputByte_30 : decode cX1_outputByte 30 = .ok (.iconst (-1), 1) := dk_2 (dk_at dksX1_outputByte_1 6 rfl rfl)
theorem dX1_outputByte_31 : decode cX1_outputByte 31 = .ok (.ireturn, 1) := dk_172 (dk_at dksX1_outputByte_1 7 rfl rfl)
abbrev cX1_saveState : ByteArray := prog_1_method_74_code
def yX1_saveState : MethodName := ⟨RX1, "saveState", "()I"⟩
def dkwX1_saveState_0 : List UInt8 := [42, 42, 180, 0, 50, 182, 0, 54, 181, 0, 120, 42, 180, 0, 50, 180, 0, 187, 172]
abbrev dktX1_saveState_0 : List UInt8 := dkwX1_saveState_0 ++ []
theorem dksX1_saveState_0 : cX1_saveState.data.toList.drop 0 = dktX1_saveState_0 := by decide +kernel
theorem dX1_saveState_0 : decode cX1_saveState 0 = .ok (.aload_n 0, 1) := dk_42 (dk_at dksX1_saveState_0 0 rfl rfl)
theorem dX1_saveState_1 : decode cX1_saveState 1 = .ok (.aload_n 0, 1) := dk_42 (dk_at dksX1_saveState_0 1 rfl rfl)
theorem dX1_saveState_2 : decode cX1_saveState 2 = .ok (.getfield 50, 3) := dk_180 0 50 (dk_at dksX1_saveState_0 2 rfl rfl)
theorem dX1_saveState_5 : decode cX1_saveState 5 = .ok (.invokevirtual 54, 3) := dk_182 0 54 (dk_at dksX1_saveState_0 5 rfl rfl)
theorem dX1_saveState_8 : decode cX1_saveState 8 = .ok (.putfield 120, 3) := dk_181 0 120 (dk_at dksX1_saveState_0 8 rfl rfl)
theorem dX1_saveState_11 : decode cX1_saveState 11 = .ok (.aload_n 0, 1) := dk_42 (dk_at dksX1_saveState_0 11 rfl rfl)
theorem dX1_saveState_12 : decode cX1_saveState 12 = .ok (.getfield 50, 3) := dk_180 0 50 (dk_at dksX1_saveState_0 12 rfl rfl)
theorem dX1_saveState_15 : decode cX1_saveState 15 = .ok (.getfield 187, 3) := dk_180 0 187 (dk_at dksX1_saveState_0 15 rfl rfl)
theorem dX1_saveState_18 : decode cX1_saveState 18 = .ok (.ireturn, 1) := dk_172 (dk_at dksX1_saveState_0 18 rfl rfl)
abbrev cX1_count : ByteArray := prog_1_method_22_code
def yX1_count : MethodName := ⟨RX1, "count", "(I)I"⟩
def dkwX1_count_7 : List UInt8 := [187, 0, 7, 89, 183, 0, 9, 191, 172]
abbrev dktX1_count_7 : List UInt8 := dkwX1_count_7 ++ []
def dkwX1_count_6 : List UInt8 := [42, 182, 0, 197, 167, 0, 28, 42, 182, 0, 200, 167, 0, 21, 42, 180, 0, 39, 182, 0, 203, 167, 0, 11]
abbrev dktX1_count_6 : List UInt8 := dkwX1_count_6 ++ dktX1_count_7
def dkwX1_count_5 : List UInt8 := [42, 180, 0, 50, 180, 0, 190, 167, 0, 49, 42, 180, 0, 50, 27, 16, 7, 100, 182, 0, 193, 167, 0, 35]
abbrev dktX1_count_5 : List UInt8 := dkwX1_count_5 ++ dktX1_count_6
def dkwX1_count_4 : List UInt8 := [180, 0, 50, 180, 0, 154, 185, 0, 123, 1, 0, 167, 0, 69, 42, 180, 0, 50, 180, 0, 187, 167, 0, 59]
abbrev dktX1_count_4 : List UInt8 := dkwX1_count_4 ++ dktX1_count_5
def dkwX1_count_3 : List UInt8 := [182, 0, 184, 167, 0, 99, 42, 180, 0, 50, 180, 0, 69, 185, 0, 123, 1, 0, 167, 0, 84, 42]
abbrev dktX1_count_3 : List UInt8 := dkwX1_count_3 ++ dktX1_count_4
def dkwX1_count_2 : List UInt8 := [42, 180, 0, 50, 180, 0, 178, 167, 0, 119, 42, 180, 0, 50, 180, 0, 181, 167, 0, 109, 42, 180, 0, 50]
abbrev dktX1_count_2 : List UInt8 := dkwX1_count_2 ++ dktX1_count_3
def dkwX1_count_1 : List UInt8 := [170, 0, 0, 0, 0, 0, 189, 0, 0, 0, 0, 0, 0, 0, 13, 0, 0, 0, 71, 0, 0, 0, 81, 0, 0, 0, 91, 0, 0, 0, 101, 0, 0, 0, 116, 0, 0, 0, 131, 0, 0, 0, 141, 0, 0, 0, 151, 0, 0, 0, 151, 0, 0, 0, 151, 0, 0, 0, 151, 0, 0, 0, 165, 0, 0, 0, 172, 0, 0, 0, 179]
abbrev dktX1_count_1 : List UInt8 := dkwX1_count_1 ++ dktX1_count_2
def dkwX1_count_0 : List UInt8 := [27]
abbrev dktX1_count_0 : List UInt8 := dkwX1_count_0 ++ dktX1_count_1
theorem dksX1_count_0 : cX1_count.data.toList.drop 0 = dktX1_count_0 := by decide +kernel
theorem dksX1_count_1 : cX1_count.data.toList.drop 1 = dktX1_count_1 := dk_seg dksX1_count_0 1 rfl rfl
theorem dksX1_count_2 : cX1_count.data.toList.drop 72 = dktX1_count_2 := dk_seg dksX1_count_1 71 rfl rfl
theorem dksX1_count_3 : cX1_count.data.toList.drop 96 = dktX1_count_3 := dk_seg dksX1_count_2 24 rfl rfl
theorem dksX1_count_4 : cX1_count.data.toList.drop 118 = dktX1_count_4 := dk_seg dksX1_count_3 22 rfl rfl
theorem dksX1_count_5 : cX1_count.data.toList.drop 142 = dktX1_count_5 := dk_seg dksX1_count_4 24 rfl rfl
theorem dksX1_count_6 : cX1_count.data.toList.drop 166 = dktX1_count_6 := dk_seg dksX1_count_5 24 rfl rfl
theorem dksX1_count_7 : cX1_count.data.toList.drop 190 = dktX1_count_7 := dk_seg dksX1_count_6 24 rfl rfl
theorem dX1_count_0 : decode cX1_count 0 = .ok (.iload_n 1, 1) := dk_27 (dk_at dksX1_count_0 0 rfl rfl)
theorem dX1_count_1 : decode cX1_count 1 = .ok (.tableswitch 189 0 13 #[71, 81, 91, 101, 116, 131, 141, 151, 151, 151, 151, 165, 172, 179], 71) := by decide +kernel
theorem dX1_count_72 : decode cX1_count 72 = .ok (.aload_n 0, 1) := dk_42 (dk_at dksX1_count_2 0 rfl rfl)
theorem dX1_count_73 : decode cX1_count 73 = .ok (.getfield 50, 3) := dk_180 0 50 (dk_at dksX1_count_2 1 rfl rfl)
theorem dX1_count_76 : decode cX1_count 76 = .ok (.getfield 178, 3) := dk_180 0 178 (dk_at dksX1_count_2 4 rfl rfl)
theorem dX1_count_79 : decode cX1_count 79 = .ok (.goto 119, 3) := dk_167 0 119 (dk_at dksX1_count_2 7 rfl rfl)
theorem dX1_count_82 : decode cX1_count 82 = .ok (.aload_n 0, 1) := dk_42 (dk_at dksX1_count_2 10 rfl rfl)
theorem dX1_count_83 : decode cX1_count 83 = .ok (.getfield 50, 3) := dk_180 0 50 (dk_at dksX1_count_2 11 rfl rfl)
theorem dX1_count_86 : decode cX1_count 86 = .ok (.getfield 181, 3) := dk_180 0 181 (dk_at dksX1_count_2 14 rfl rfl)
theorem dX1_count_89 : decode cX1_count 89 = .ok (.goto 109, 3) := dk_167 0 109 (dk_at dksX1_count_2 17 rfl rfl)
theorem dX1_count_92 : decode cX1_count 92 = .ok (.aload_n 0, 1) := dk_42 (dk_at dksX1_count_2 20 rfl rfl)
theorem dX1_count_93 : decode cX1_count 93 = .ok (.getfield 50, 3) := dk_180 0 50 (dk_at dksX1_count_2 21 rfl rfl)
theorem dX1_count_96 : decode cX1_count 96 = .ok (.invokevirtual 184, 3) := dk_182 0 184 (dk_at dksX1_count_3 0 rfl rfl)
theorem dX1_count_99 : decode cX1_count 99 = .ok (.goto 99, 3) := dk_167 0 99 (dk_at dksX1_count_3 3 rfl rfl)
theorem dX1_count_102 : decode cX1_count 102 = .ok (.aload_n 0, 1) := dk_42 (dk_at dksX1_count_3 6 rfl rfl)
theorem dX1_count_103 : decode cX1_count 103 = .ok (.getfield 50, 3) := dk_180 0 50 (dk_at dksX1_count_3 7 rfl rfl)
theorem dX1_count_106 : decode cX1_count 106 = .ok (.getfield 69, 3) := dk_180 0 69 (dk_at dksX1_count_3 10 rfl rfl)
theorem dX1_count_109 : decode cX1_count 109 = .ok (.invokeinterface 123 1, 5) := by decide +kernel
theorem dX1_count_114 : decode cX1_count 114 = .ok (.goto 84, 3) := dk_167 0 84 (dk_at dksX1_count_3 18 rfl rfl)
theorem dX1_count_117 : decode cX1_count 117 = .ok (.aload_n 0, 1) := dk_42 (dk_at dksX1_count_3 21 rfl rfl)
theorem dX1_count_118 : decode cX1_count 118 = .ok (.getfield 50, 3) := dk_180 0 50 (dk_at dksX1_count_4 0 rfl rfl)
theorem dX1_count_121 : decode cX1_count 121 = .ok (.getfield 154, 3) := dk_180 0 154 (dk_at dksX1_count_4 3 rfl rfl)
theorem dX1_count_124 : decode cX1_count 124 = .ok (.invokeinterface 123 1, 5) := by decide +kernel
theorem dX1_count_129 : decode cX1_count 129 = .ok (.goto 69, 3) := dk_167 0 69 (dk_at dksX1_count_4 11 rfl rfl)
theorem dX1_count_132 : decode cX1_count 132 = .ok (.aload_n 0, 1) := dk_42 (dk_at dksX1_count_4 14 rfl rfl)
theorem dX1_count_133 : decode cX1_count 133 = .ok (.getfield 50, 3) := dk_180 0 50 (dk_at dksX1_count_4 15 rfl rfl)
theorem dX1_count_136 : decode cX1_count 136 = .ok (.getfield 187, 3) := dk_180 0 187 (dk_at dksX1_count_4 18 rfl rfl)
theorem dX1_count_139 : decode cX1_count 139 = .ok (.goto 59, 3) := dk_167 0 59 (dk_at dksX1_count_4 21 rfl rfl)
theorem dX1_count_142 : decode cX1_count 142 = .ok (.aload_n 0, 1) := dk_42 (dk_at dksX1_count_5 0 rfl rfl)
theorem dX1_count_143 : decode cX1_count 143 = .ok (.getfield 50, 3) := dk_180 0 50 (dk_at dksX1_count_5 1 rfl rfl)
theorem dX1_count_146 : decode cX1_count 146 = .ok (.getfield 190, 3) := dk_180 0 190 (dk_at dksX1_count_5 4 rfl rfl)
theorem dX1_count_149 : decode cX1_count 149 = .ok (.goto 49, 3) := dk_167 0 49 (dk_at dksX1_count_5 7 rfl rfl)
theorem dX1_count_152 : decode cX1_count 152 = .ok (.aload_n 0, 1) := dk_42 (dk_at dksX1_count_5 10 rfl rfl)
theorem dX1_count_153 : decode cX1_count 153 = .ok (.getfield 50, 3) := dk_180 0 50 (dk_at dksX1_count_5 11 rfl rfl)
theorem dX1_count_156 : decode cX1_count 156 = .ok (.iload_n 1, 1) := dk_27 (dk_at dksX1_count_5 14 rfl rfl)
theorem dX1_count_157 : decode cX1_count 157 = .ok (.bipush 7, 2) := dk_16 7 (dk_at dksX1_count_5 15 rfl rfl)
theorem dX1_count_159 : decode cX1_count 159 = .ok (.isub, 1) := dk_100 (dk_at dksX1_count_5 17 rfl rfl)
theorem dX1_count_160 : decode cX1_count 160 = .ok (.invokevirtual 193, 3) := dk_182 0 193 (dk_at dksX1_count_5 18 rfl rfl)
theorem dX1_count_163 : decode cX1_count 163 = .ok (.goto 35, 3) := dk_167 0 35 (dk_at dksX1_count_5 21 rfl rfl)
theorem dX1_count_166 : decode cX1_count 166 = .ok (.aload_n 0, 1) := dk_42 (dk_at dksX1_count_6 0 rfl rfl)
theorem dX1_count_167 : decode cX1_count 167 = .ok (.invokevirtual 197, 3) := dk_182 0 197 (dk_at dksX1_count_6 1 rfl rfl)
theorem dX1_count_170 : decode cX1_count 170 = .ok (.goto 28, 3) := dk_167 0 28 (dk_at dksX1_count_6 4 rfl rfl)
theorem dX1_count_173 : decode cX1_count 173 = .ok (.aload_n 0, 1) := dk_42 (dk_at dksX1_count_6 7 rfl rfl)
theorem dX1_count_174 : decode cX1_count 174 = .ok (.invokevirtual 200, 3) := dk_182 0 200 (dk_at dksX1_count_6 8 rfl rfl)
theorem dX1_count_177 : decode cX1_count 177 = .ok (.goto 21, 3) := dk_167 0 21 (dk_at dksX1_count_6 11 rfl rfl)
theorem dX1_count_180 : decode cX1_count 180 = .ok (.aload_n 0, 1) := dk_42 (dk_at dksX1_count_6 14 rfl rfl)
theorem dX1_count_181 : decode cX1_count 181 = .ok (.getfield 39, 3) := dk_180 0 39 (dk_at dksX1_count_6 15 rfl rfl)
theorem dX1_count_184 : decode cX1_count 184 = .ok (.invokevirtual 203, 3) := dk_182 0 203 (dk_at dksX1_count_6 18 rfl rfl)
theorem dX1_count_187 : decode cX1_count 187 = .ok (.goto 11, 3) := dk_167 0 11 (dk_at dksX1_count_6 21 rfl rfl)
theorem dX1_count_190 : decode cX1_count 190 = .ok (.new 7, 3) := dk_187 0 7 (dk_at dksX1_count_7 0 rfl rfl)
theorem dX1_count_193 : decode cX1_count 193 = .ok (.dup, 1) := dk_89 (dk_at dksX1_count_7 3 rfl rfl)
theorem dX1_count_194 : decode cX1_count 194 = .ok (.invokespecial 9, 3) := dk_183 0 9 (dk_at dksX1_count_7 4 rfl rfl)
theorem dX1_count_197 : decode cX1_count 197 = .ok (.athrow, 1) := dk_191 (dk_at dksX1_count_7 7 rfl rfl)
theorem dX1_count_198 : decode cX1_count 198 = .ok (.ireturn, 1) := dk_172 (dk_at dksX1_count_7 8 rfl rfl)
abbrev cX1_untracked : ByteArray := prog_1_method_20_code
def yX1_untracked : MethodName := ⟨RX1, "untracked", "()I"⟩
def dkwX1_untracked_2 : List UInt8 := [154, 0, 7, 4, 167, 0, 4, 3, 184, 0, 170, 96, 60, 132, 2, 1, 167, 255, 198, 27, 172]
abbrev dktX1_untracked_2 : List UInt8 := dkwX1_untracked_2 ++ []
def dkwX1_untracked_1 : List UInt8 := [180, 0, 50, 28, 182, 0, 157, 182, 0, 161, 153, 0, 21, 42, 180, 0, 50, 28, 182, 0, 157, 182, 0, 167]
abbrev dktX1_untracked_1 : List UInt8 := dkwX1_untracked_1 ++ dktX1_untracked_2
def dkwX1_untracked_0 : List UInt8 := [3, 60, 3, 61, 28, 42, 180, 0, 50, 180, 0, 154, 185, 0, 123, 1, 0, 162, 0, 48, 27, 42]
abbrev dktX1_untracked_0 : List UInt8 := dkwX1_untracked_0 ++ dktX1_untracked_1
theorem dksX1_untracked_0 : cX1_untracked.data.toList.drop 0 = dktX1_untracked_0 := by decide +kernel
theorem dksX1_untracked_1 : cX1_untracked.data.toList.drop 22 = dktX1_untracked_1 := dk_seg dksX1_untracked_0 22 rfl rfl
theorem dksX1_untracked_2 : cX1_untracked.data.toList.drop 46 = dktX1_untracked_2 := dk_seg dksX1_untracked_1 24 rfl rfl
theorem dX1_untracked_0 : decode cX1_untracked 0 = .ok (.iconst 0, 1) := dk_3 (dk_at dksX1_untracked_0 0 rfl rfl)
theorem dX1_untracked_1 : decode cX1_untracked 1 = .ok (.istore_n 1, 1) := dk_60 (dk_at dksX1_untracked_0 1 rfl rfl)
theorem dX1_untracked_2 : decode cX1_untracked 2 = .ok (.iconst 0, 1) := dk_3 (dk_at dksX1_untracked_0 2 rfl rfl)
theorem dX1_untracked_3 : decode cX1_untracked 3 = .ok (.istore_n 2, 1) := dk_61 (dk_at dksX1_untracked_0 3 rfl rfl)
theorem dX1_untracked_4 : decode cX1_untracked 4 = .ok (.iload_n 2, 1) := dk_28 (dk_at dksX1_untracked_0 4 rfl rfl)
theorem dX1_untracked_5 : decode cX1_untracked 5 = .ok (.aload_n 0, 1) := dk_42 (dk_at dksX1_untracked_0 5 rfl rfl)
theorem dX1_untracked_6 : decode cX1_untracked 6 = .ok (.getfield 50, 3) := dk_180 0 50 (dk_at dksX1_untracked_0 6 rfl rfl)
theorem dX1_untracked_9 : decode cX1_untracked 9 = .ok (.getfield 154, 3) := dk_180 0 154 (dk_at dksX1_untracked_0 9 rfl rfl)
theorem dX1_untracked_12 : decode cX1_untracked 12 = .ok (.invokeinterface 123 1, 5) := by decide +kernel
theorem dX1_untracked_17 : decode cX1_untracked 17 = .ok (.if_icmp .ge 48, 3) := dk_162 0 48 (dk_at dksX1_untracked_0 17 rfl rfl)
theorem dX1_untracked_20 : decode cX1_untracked 20 = .ok (.iload_n 1, 1) := dk_27 (dk_at dksX1_untracked_0 20 rfl rfl)
theorem dX1_untracked_21 : decode cX1_untracked 21 = .ok (.aload_n 0, 1) := dk_42 (dk_at dksX1_untracked_0 21 rfl rfl)
theorem dX1_untracked_22 : decode cX1_untracked 22 = .ok (.getfield 50, 3) := dk_180 0 50 (dk_at dksX1_untracked_1 0 rfl rfl)
theorem dX1_untracked_25 : decode cX1_untracked 25 = .ok (.iload_n 2, 1) := dk_28 (dk_at dksX1_untracked_1 3 rfl rfl)
theorem dX1_untracked_26 : decode cX1_untracked 26 = .ok (.invokevirtual 157, 3) := dk_182 0 157 (dk_at dksX1_untracked_1 4 rfl rfl)
theorem dX1_untracked_29 : decode cX1_untracked 29 = .ok (.invokevirtual 161, 3) := dk_182 0 161 (dk_at dksX1_untracked_1 7 rfl rfl)
theorem dX1_untracked_32 : decode cX1_untracked 32 = .ok (.ifCond .eq 21, 3) := dk_153 0 21 (dk_at dksX1_untracked_1 10 rfl rfl)
theorem dX1_untracked_35 : decode cX1_untracked 35 = .ok (.aload_n 0, 1) := dk_42 (dk_at dksX1_untracked_1 13 rfl rfl)
theorem dX1_untracked_36 : decode cX1_untracked 36 = .ok (.getfield 50, 3) := dk_180 0 50 (dk_at dksX1_untracked_1 14 rfl rfl)
theorem dX1_untracked_39 : decode cX1_untracked 39 = .ok (.iload_n 2, 1) := dk_28 (dk_at dksX1_untracked_1 17 rfl rfl)
theorem dX1_untracked_40 : decode cX1_untracked 40 = .ok (.invokevirtual 157, 3) := dk_182 0 157 (dk_at dksX1_untracked_1 18 rfl rfl)
theorem dX1_untracked_43 : decode cX1_untracked 43 = .ok (.invokevirtual 167, 3) := dk_182 0 167 (dk_at dksX1_untracked_1 21 rfl rfl)
theorem dX1_untracked_46 : decode cX1_untracked 46 = .ok (.ifCond .ne 7, 3) := dk_154 0 7 (dk_at dksX1_untracked_2 0 rfl rfl)
theorem dX1_untracked_49 : decode cX1_untracked 49 = .ok (.iconst 1, 1) := dk_4 (dk_at dksX1_untracked_2 3 rfl rfl)
theorem dX1_untracked_50 : decode cX1_untracked 50 = .ok (.goto 4, 3) := dk_167 0 4 (dk_at dksX1_untracked_2 4 rfl rfl)
theorem dX1_untracked_53 : decode cX1_untracked 53 = .ok (.iconst 0, 1) := dk_3 (dk_at dksX1_untracked_2 7 rfl rfl)
theorem dX1_untracked_54 : decode cX1_untracked 54 = .ok (.invokestatic 170, 3) := dk_184 0 170 (dk_at dksX1_untracked_2 8 rfl rfl)
theorem dX1_untracked_57 : decode cX1_untracked 57 = .ok (.iadd, 1) := dk_96 (dk_at dksX1_untracked_2 11 rfl rfl)
theorem dX1_untracked_58 : decode cX1_untracked 58 = .ok (.istore_n 1, 1) := dk_60 (dk_at dksX1_untracked_2 12 rfl rfl)
theorem dX1_untracked_59 : decode cX1_untracked 59 = .ok (.iinc 2 1, 3) := dk_132 2 1 (dk_at dksX1_untracked_2 13 rfl rfl)
theorem dX1_untracked_62 : decode cX1_untracked 62 = .ok (.goto (-58), 3) := dk_167 255 198 (dk_at dksX1_untracked_2 16 rfl rfl)
theorem dX1_untracked_65 : decode cX1_untracked 65 = .ok (.iload_n 1, 1) := dk_27 (dk_at dksX1_untracked_2 19 rfl rfl)
theorem dX1_untracked_66 : decode cX1_untracked 66 = .ok (.ireturn, 1) := dk_172 (dk_at dksX1_untracked_2 20 rfl rfl)
abbrev cX1_lagging : ByteArray := prog_1_method_21_code
def yX1_lagging : MethodName := ⟨RX1, "lagging", "()I"⟩
def dkwX1_lagging_2 : List UInt8 := [184, 0, 170, 96, 60, 132, 2, 1, 167, 255, 208, 27, 172]
abbrev dktX1_lagging_2 : List UInt8 := dkwX1_lagging_2 ++ []
def dkwX1_lagging_1 : List UInt8 := [180, 0, 50, 42, 180, 0, 50, 28, 182, 0, 157, 182, 0, 174, 158, 0, 7, 4, 167, 0, 4, 3]
abbrev dktX1_lagging_1 : List UInt8 := dkwX1_lagging_1 ++ dktX1_lagging_2
def dkwX1_lagging_0 : List UInt8 := [3, 60, 3, 61, 28, 42, 180, 0, 50, 180, 0, 154, 185, 0, 123, 1, 0, 162, 0, 38, 27, 42]
abbrev dktX1_lagging_0 : List UInt8 := dkwX1_lagging_0 ++ dktX1_lagging_1
theorem dksX1_lagging_0 : cX1_lagging.data.toList.drop 0 = dktX1_lagging_0 := by decide +kernel
theorem dksX1_lagging_1 : cX1_lagging.data.toList.drop 22 = dktX1_lagging_1 := dk_seg dksX1_lagging_0 22 rfl rfl
theorem dksX1_lagging_2 : cX1_lagging.data.toList.drop 44 = dktX1_lagging_2 := dk_seg dksX1_lagging_1 22 rfl rfl
theorem dX1_lagging_0 : decode cX1_lagging 0 = .ok (.iconst 0, 1) := dk_3 (dk_at dksX1_lagging_0 0 rfl rfl)
theorem dX1_lagging_1 : decode cX1_lagging 1 = .ok (.istore_n 1, 1) := dk_60 (dk_at dksX1_lagging_0 1 rfl rfl)
theorem dX1_lagging_2 : decode cX1_lagging 2 = .ok (.iconst 0, 1) := dk_3 (dk_at dksX1_lagging_0 2 rfl rfl)
theorem dX1_lagging_3 : decode cX1_lagging 3 = .ok (.istore_n 2, 1) := dk_61 (dk_at dksX1_lagging_0 3 rfl rfl)
theorem dX1_lagging_4 : decode cX1_lagging 4 = .ok (.iload_n 2, 1) := dk_28 (dk_at dksX1_lagging_0 4 rfl rfl)
theorem dX1_lagging_5 : decode cX1_lagging 5 = .ok (.aload_n 0, 1) := dk_42 (dk_at dksX1_lagging_0 5 rfl rfl)
theorem dX1_lagging_6 : decode cX1_lagging 6 = .ok (.getfield 50, 3) := dk_180 0 50 (dk_at dksX1_lagging_0 6 rfl rfl)
theorem dX1_lagging_9 : decode cX1_lagging 9 = .ok (.getfield 154, 3) := dk_180 0 154 (dk_at dksX1_lagging_0 9 rfl rfl)
theorem dX1_lagging_12 : decode cX1_lagging 12 = .ok (.invokeinterface 123 1, 5) := by decide +kernel
theorem dX1_lagging_17 : decode cX1_lagging 17 = .ok (.if_icmp .ge 38, 3) := dk_162 0 38 (dk_at dksX1_lagging_0 17 rfl rfl)
theorem dX1_lagging_20 : decode cX1_lagging 20 = .ok (.iload_n 1, 1) := dk_27 (dk_at dksX1_lagging_0 20 rfl rfl)
theorem dX1_lagging_21 : decode cX1_lagging 21 = .ok (.aload_n 0, 1) := dk_42 (dk_at dksX1_lagging_0 21 rfl rfl)
theorem dX1_lagging_22 : decode cX1_lagging 22 = .ok (.getfield 50, 3) := dk_180 0 50 (dk_at dksX1_lagging_1 0 rfl rfl)
theorem dX1_lagging_25 : decode cX1_lagging 25 = .ok (.aload_n 0, 1) := dk_42 (dk_at dksX1_lagging_1 3 rfl rfl)
theorem dX1_lagging_26 : decode cX1_lagging 26 = .ok (.getfield 50, 3) := dk_180 0 50 (dk_at dksX1_lagging_1 4 rfl rfl)
theorem dX1_lagging_29 : decode cX1_lagging 29 = .ok (.iload_n 2, 1) := dk_28 (dk_at dksX1_lagging_1 7 rfl rfl)
theorem dX1_lagging_30 : decode cX1_lagging 30 = .ok (.invokevirtual 157, 3) := dk_182 0 157 (dk_at dksX1_lagging_1 8 rfl rfl)
theorem dX1_lagging_33 : decode cX1_lagging 33 = .ok (.invokevirtual 174, 3) := dk_182 0 174 (dk_at dksX1_lagging_1 11 rfl rfl)
theorem dX1_lagging_36 : decode cX1_lagging 36 = .ok (.ifCond .le 7, 3) := dk_158 0 7 (dk_at dksX1_lagging_1 14 rfl rfl)
theorem dX1_lagging_39 : decode cX1_lagging 39 = .ok (.iconst 1, 1) := dk_4 (dk_at dksX1_lagging_1 17 rfl rfl)
theorem dX1_lagging_40 : decode cX1_lagging 40 = .ok (.goto 4, 3) := dk_167 0 4 (dk_at dksX1_lagging_1 18 rfl rfl)
theorem dX1_lagging_43 : decode cX1_lagging 43 = .ok (.iconst 0, 1) := dk_3 (dk_at dksX1_lagging_1 21 rfl rfl)
theorem dX1_lagging_44 : decode cX1_lagging 44 = .ok (.invokestatic 170, 3) := dk_184 0 170 (dk_at dksX1_lagging_2 0 rfl rfl)
theorem dX1_lagging_47 : decode cX1_lagging 47 = .ok (.iadd, 1) := dk_96 (dk_at dksX1_lagging_2 3 rfl rfl)
theorem dX1_lagging_48 : decode cX1_lagging 48 = .ok (.istore_n 1, 1) := dk_60 (dk_at dksX1_lagging_2 4 rfl rfl)
theorem dX1_lagging_49 : decode cX1_lagging 49 = .ok (.iinc 2 1, 3) := dk_132 2 1 (dk_at dksX1_lagging_2 5 rfl rfl)
theorem dX1_lagging_52 : decode cX1_lagging 52 = .ok (.goto (-48), 3) := dk_167 255 208 (dk_at dksX1_lagging_2 8 rfl rfl)
theorem dX1_lagging_55 : decode cX1_lagging 55 = .ok (.iload_n 1, 1) := dk_27 (dk_at dksX1_lagging_2 11 rfl rfl)
theorem dX1_lagging_56 : decode cX1_lagging 56 = .ok (.ireturn, 1) := dk_172 (dk_at dksX1_lagging_2 12 rfl rfl)
abbrev cX1_account : ByteArray := prog_1_method_23_code
def yX1_account : MethodName := ⟨RX1, "account", "(I)I"⟩
def dkwX1_account_0 : List UInt8 := [27, 133, 9, 20, 0, 204, 184, 0, 91, 184, 0, 206, 42, 180, 0, 50, 180, 0, 210, 27, 46, 172]
abbrev dktX1_account_0 : List UInt8 := dkwX1_account_0 ++ []
theorem dksX1_account_0 : cX1_account.data.toList.drop 0 = dktX1_account_0 := by decide +kernel
theorem dX1_account_0 : decode cX1_account 0 = .ok (.iload_n 1, 1) := dk_27 (dk_at dksX1_account_0 0 rfl rfl)
theorem dX1_account_1 : decode cX1_account 1 = .ok (.i2l, 1) := dk_133 (dk_at dksX1_account_0 1 rfl rfl)
theorem dX1_account_2 : decode cX1_account 2 = .ok (.lconst 0, 1) := dk_9 (dk_at dksX1_account_0 2 rfl rfl)
theorem dX1_account_3 : decode cX1_account 3 = .ok (.ldc2_w 204, 3) := dk_20 0 204 (dk_at dksX1_account_0 3 rfl rfl)
theorem dX1_account_6 : decode cX1_account 6 = .ok (.invokestatic 91, 3) := dk_184 0 91 (dk_at dksX1_account_0 6 rfl rfl)
theorem dX1_account_9 : decode cX1_account 9 = .ok (.invokestatic 206, 3) := dk_184 0 206 (dk_at dksX1_account_0 9 rfl rfl)
theorem dX1_account_12 : decode cX1_account 12 = .ok (.aload_n 0, 1) := dk_42 (dk_at dksX1_account_0 12 rfl rfl)
theorem dX1_account_13 : decode cX1_account 13 = .ok (.getfield 50, 3) := dk_180 0 50 (dk_at dksX1_account_0 13 rfl rfl)
theorem dX1_account_16 : decode cX1_account 16 = .ok (.getfield 210, 3) := dk_180 0 210 (dk_at dksX1_account_0 16 rfl rfl)
theorem dX1_account_19 : decode cX1_account 19 = .ok (.iload_n 1, 1) := dk_27 (dk_at dksX1_account_0 19 rfl rfl)
theorem dX1_account_20 : decode cX1_account 20 = .ok (.iaload, 1) := dk_46 (dk_at dksX1_account_0 20 rfl rfl)
theorem dX1_account_21 : decode cX1_account 21 = .ok (.ireturn, 1) := dk_172 (dk_at dksX1_account_0 21 rfl rfl)
abbrev cX1_checkArgument : ByteArray := prog_1_method_3_code
def yX1_checkArgument : MethodName := ⟨RX1, "checkArgument", "(Z)V"⟩
def dkwX1_checkArgument_0 : List UInt8 := [26, 154, 0, 11, 187, 0, 7, 89, 183, 0, 9, 191, 177]
abbrev dktX1_checkArgument_0 : List UInt8 := dkwX1_checkArgument_0 ++ []
theorem dksX1_checkArgument_0 : cX1_checkArgument.data.toList.drop 0 = dktX1_checkArgument_0 := by decide +kernel
theorem dX1_checkArgument_0 : decode cX1_checkArgument 0 = .ok (.iload_n 0, 1) := dk_26 (dk_at dksX1_checkArgument_0 0 rfl rfl)
theorem dX1_checkArgument_1 : decode cX1_checkArgument 1 = .ok (.ifCond .ne 11, 3) := dk_154 0 11 (dk_at dksX1_checkArgument_0 1 rfl rfl)
theorem dX1_checkArgument_4 : decode cX1_checkArgument 4 = .ok (.new 7, 3) := dk_187 0 7 (dk_at dksX1_checkArgument_0 4 rfl rfl)
theorem dX1_checkArgument_7 : decode cX1_checkArgument 7 = .ok (.dup, 1) := dk_89 (dk_at dksX1_checkArgument_0 7 rfl rfl)
theorem dX1_checkArgument_8 : decode cX1_checkArgument 8 = .ok (.invokespecial 9, 3) := dk_183 0 9 (dk_at dksX1_checkArgument_0 8 rfl rfl)
theorem dX1_checkArgument_11 : decode cX1_checkArgument 11 = .ok (.athrow, 1) := dk_191 (dk_at dksX1_checkArgument_0 11 rfl rfl)
theorem dX1_checkArgument_12 : decode cX1_checkArgument 12 = .ok (.return_, 1) := dk_177 (dk_at dksX1_checkArgument_0 12 rfl rfl)
abbrev cX1_cell : ByteArray := prog_1_method_28_code
def yX1_cell : MethodName := ⟨RX1, "cell", "(II)I"⟩
def dkwX1_cell_4 : List UInt8 := [182, 0, 246, 167, 0, 11, 187, 0, 7, 89, 183, 0, 9, 191, 172]
abbrev dktX1_cell_4 : List UInt8 := dkwX1_cell_4 ++ []
def dkwX1_cell_3 : List UInt8 := [167, 0, 37, 42, 180, 0, 50, 180, 0, 65, 27, 51, 184, 0, 170, 167, 0, 22, 42, 180, 0, 50, 27]
abbrev dktX1_cell_3 : List UInt8 := dkwX1_cell_3 ++ dktX1_cell_4
def dkwX1_cell_2 : List UInt8 := [42, 180, 0, 50, 180, 0, 227, 27, 182, 0, 231, 184, 0, 237, 167, 0, 45, 42, 27, 182, 0, 243]
abbrev dktX1_cell_2 : List UInt8 := dkwX1_cell_2 ++ dktX1_cell_3
def dkwX1_cell_1 : List UInt8 := [170, 0, 0, 0, 0, 81, 0, 0, 0, 0, 0, 0, 0, 3, 0, 0, 0, 30, 0, 0, 0, 47, 0, 0, 0, 55, 0, 0, 0, 70]
abbrev dktX1_cell_1 : List UInt8 := dkwX1_cell_1 ++ dktX1_cell_2
def dkwX1_cell_0 : List UInt8 := [42, 27, 182, 0, 224, 28]
abbrev dktX1_cell_0 : List UInt8 := dkwX1_cell_0 ++ dktX1_cell_1
theorem dksX1_cell_0 : cX1_cell.data.toList.drop 0 = dktX1_cell_0 := by decide +kernel
theorem dksX1_cell_1 : cX1_cell.data.toList.drop 6 = dktX1_cell_1 := dk_seg dksX1_cell_0 6 rfl rfl
theorem dksX1_cell_2 : cX1_cell.data.toList.drop 36 = dktX1_cell_2 := dk_seg dksX1_cell_1 30 rfl rfl
theorem dksX1_cell_3 : cX1_cell.data.toList.drop 58 = dktX1_cell_3 := dk_seg dksX1_cell_2 22 rfl rfl
theorem dksX1_cell_4 : cX1_cell.data.toList.drop 81 = dktX1_cell_4 := dk_seg dksX1_cell_3 23 rfl rfl
theorem dX1_cell_0 : decode cX1_cell 0 = .ok (.aload_n 0, 1) := dk_42 (dk_at dksX1_cell_0 0 rfl rfl)
theorem dX1_cell_1 : decode cX1_cell 1 = .ok (.iload_n 1, 1) := dk_27 (dk_at dksX1_cell_0 1 rfl rfl)
theorem dX1_cell_2 : decode cX1_cell 2 = .ok (.invokevirtual 224, 3) := dk_182 0 224 (dk_at dksX1_cell_0 2 rfl rfl)
theorem dX1_cell_5 : decode cX1_cell 5 = .ok (.iload_n 2, 1) := dk_28 (dk_at dksX1_cell_0 5 rfl rfl)
theorem dX1_cell_6 : decode cX1_cell 6 = .ok (.tableswitch 81 0 3 #[30, 47, 55, 70], 30) := by decide +kernel
theorem dX1_cell_36 : decode cX1_cell 36 = .ok (.aload_n 0, 1) := dk_42 (dk_at dksX1_cell_2 0 rfl rfl)
theorem dX1_cell_37 : decode cX1_cell 37 = .ok (.getfield 50, 3) := dk_180 0 50 (dk_at dksX1_cell_2 1 rfl rfl)
theorem dX1_cell_40 : decode cX1_cell 40 = .ok (.getfield 227, 3) := dk_180 0 227 (dk_at dksX1_cell_2 4 rfl rfl)
theorem dX1_cell_43 : decode cX1_cell 43 = .ok (.iload_n 1, 1) := dk_27 (dk_at dksX1_cell_2 7 rfl rfl)
theorem dX1_cell_44 : decode cX1_cell 44 = .ok (.invokevirtual 231, 3) := dk_182 0 231 (dk_at dksX1_cell_2 8 rfl rfl)
theorem dX1_cell_47 : decode cX1_cell 47 = .ok (.invokestatic 237, 3) := dk_184 0 237 (dk_at dksX1_cell_2 11 rfl rfl)
theorem dX1_cell_50 : decode cX1_cell 50 = .ok (.goto 45, 3) := dk_167 0 45 (dk_at dksX1_cell_2 14 rfl rfl)
theorem dX1_cell_53 : decode cX1_cell 53 = .ok (.aload_n 0, 1) := dk_42 (dk_at dksX1_cell_2 17 rfl rfl)
theorem dX1_cell_54 : decode cX1_cell 54 = .ok (.iload_n 1, 1) := dk_27 (dk_at dksX1_cell_2 18 rfl rfl)
theorem dX1_cell_55 : decode cX1_cell 55 = .ok (.invokevirtual 243, 3) := dk_182 0 243 (dk_at dksX1_cell_2 19 rfl rfl)
theorem dX1_cell_58 : decode cX1_cell 58 = .ok (.goto 37, 3) := dk_167 0 37 (dk_at dksX1_cell_3 0 rfl rfl)
theorem dX1_cell_61 : decode cX1_cell 61 = .ok (.aload_n 0, 1) := dk_42 (dk_at dksX1_cell_3 3 rfl rfl)
theorem dX1_cell_62 : decode cX1_cell 62 = .ok (.getfield 50, 3) := dk_180 0 50 (dk_at dksX1_cell_3 4 rfl rfl)
theorem dX1_cell_65 : decode cX1_cell 65 = .ok (.getfield 65, 3) := dk_180 0 65 (dk_at dksX1_cell_3 7 rfl rfl)
theorem dX1_cell_68 : decode cX1_cell 68 = .ok (.iload_n 1, 1) := dk_27 (dk_at dksX1_cell_3 10 rfl rfl)
theorem dX1_cell_69 : decode cX1_cell 69 = .ok (.baload, 1) := dk_51 (dk_at dksX1_cell_3 11 rfl rfl)
theorem dX1_cell_70 : decode cX1_cell 70 = .ok (.invokestatic 170, 3) := dk_184 0 170 (dk_at dksX1_cell_3 12 rfl rfl)
theorem dX1_cell_73 : decode cX1_cell 73 = .ok (.goto 22, 3) := dk_167 0 22 (dk_at dksX1_cell_3 15 rfl rfl)
theorem dX1_cell_76 : decode cX1_cell 76 = .ok (.aload_n 0, 1) := dk_42 (dk_at dksX1_cell_3 18 rfl rfl)
theorem dX1_cell_77 : decode cX1_cell 77 = .ok (.getfield 50, 3) := dk_180 0 50 (dk_at dksX1_cell_3 19 rfl rfl)
theorem dX1_cell_80 : decode cX1_cell 80 = .ok (.iload_n 1, 1) := dk_27 (dk_at dksX1_cell_3 22 rfl rfl)
theorem dX1_cell_81 : decode cX1_cell 81 = .ok (.invokevirtual 246, 3) := dk_182 0 246 (dk_at dksX1_cell_4 0 rfl rfl)
theorem dX1_cell_84 : decode cX1_cell 84 = .ok (.goto 11, 3) := dk_167 0 11 (dk_at dksX1_cell_4 3 rfl rfl)
theorem dX1_cell_87 : decode cX1_cell 87 = .ok (.new 7, 3) := dk_187 0 7 (dk_at dksX1_cell_4 6 rfl rfl)
theorem dX1_cell_90 : decode cX1_cell 90 = .ok (.dup, 1) := dk_89 (dk_at dksX1_cell_4 9 rfl rfl)
theorem dX1_cell_91 : decode cX1_cell 91 = .ok (.invokespecial 9, 3) := dk_183 0 9 (dk_at dksX1_cell_4 10 rfl rfl)
theorem dX1_cell_94 : decode cX1_cell 94 = .ok (.athrow, 1) := dk_191 (dk_at dksX1_cell_4 13 rfl rfl)
theorem dX1_cell_95 : decode cX1_cell 95 = .ok (.ireturn, 1) := dk_172 (dk_at dksX1_cell_4 14 rfl rfl)
abbrev cX1_checkCell : ByteArray := prog_1_method_24_code
def yX1_checkCell : MethodName := ⟨RX1, "checkCell", "(I)V"⟩
def dkwX1_checkCell_0 : List UInt8 := [27, 133, 9, 42, 180, 0, 50, 180, 0, 178, 4, 100, 133, 184, 0, 91, 184, 0, 214, 177]
abbrev dktX1_checkCell_0 : List UInt8 := dkwX1_checkCell_0 ++ []
theorem dksX1_checkCell_0 : cX1_checkCell.data.toList.drop 0 = dktX1_checkCell_0 := by decide +kernel
theorem dX1_checkCell_0 : decode cX1_checkCell 0 = .ok (.iload_n 1, 1) := dk_27 (dk_at dksX1_checkCell_0 0 rfl rfl)
theorem dX1_checkCell_1 : decode cX1_checkCell 1 = .ok (.i2l, 1) := dk_133 (dk_at dksX1_checkCell_0 1 rfl rfl)
theorem dX1_checkCell_2 : decode cX1_checkCell 2 = .ok (.lconst 0, 1) := dk_9 (dk_at dksX1_checkCell_0 2 rfl rfl)
theorem dX1_checkCell_3 : decode cX1_checkCell 3 = .ok (.aload_n 0, 1) := dk_42 (dk_at dksX1_checkCell_0 3 rfl rfl)
theorem dX1_checkCell_4 : decode cX1_checkCell 4 = .ok (.getfield 50, 3) := dk_180 0 50 (dk_at dksX1_checkCell_0 4 rfl rfl)
theorem dX1_checkCell_7 : decode cX1_checkCell 7 = .ok (.getfield 178, 3) := dk_180 0 178 (dk_at dksX1_checkCell_0 7 rfl rfl)
theorem dX1_checkCell_10 : decode cX1_checkCell 10 = .ok (.iconst 1, 1) := dk_4 (dk_at dksX1_checkCell_0 10 rfl rfl)
theorem dX1_checkCell_11 : decode cX1_checkCell 11 = .ok (.isub, 1) := dk_100 (dk_at dksX1_checkCell_0 11 rfl rfl)
theorem dX1_checkCell_12 : decode cX1_checkCell 12 = .ok (.i2l, 1) := dk_133 (dk_at dksX1_checkCell_0 12 rfl rfl)
theorem dX1_checkCell_13 : decode cX1_checkCell 13 = .ok (.invokestatic 91, 3) := dk_184 0 91 (dk_at dksX1_checkCell_0 13 rfl rfl)
theorem dX1_checkCell_16 : decode cX1_checkCell 16 = .ok (.invokestatic 214, 3) := dk_184 0 214 (dk_at dksX1_checkCell_0 16 rfl rfl)
theorem dX1_checkCell_19 : decode cX1_checkCell 19 = .ok (.return_, 1) := dk_177 (dk_at dksX1_checkCell_0 19 rfl rfl)
abbrev cX1_checkIndex : ByteArray := prog_1_method_2_code
def yX1_checkIndex : MethodName := ⟨RX1, "checkIndex", "(Z)V"⟩
def dkwX1_checkIndex_0 : List UInt8 := [26, 154, 0, 11, 187, 0, 1, 89, 183, 0, 3, 191, 177]
abbrev dktX1_checkIndex_0 : List UInt8 := dkwX1_checkIndex_0 ++ []
theorem dksX1_checkIndex_0 : cX1_checkIndex.data.toList.drop 0 = dktX1_checkIndex_0 := by decide +kernel
theorem dX1_checkIndex_0 : decode cX1_checkIndex 0 = .ok (.iload_n 0, 1) := dk_26 (dk_at dksX1_checkIndex_0 0 rfl rfl)
theorem dX1_checkIndex_1 : decode cX1_checkIndex 1 = .ok (.ifCond .ne 11, 3) := dk_154 0 11 (dk_at dksX1_checkIndex_0 1 rfl rfl)
theorem dX1_checkIndex_4 : decode cX1_checkIndex 4 = .ok (.new 1, 3) := dk_187 0 1 (dk_at dksX1_checkIndex_0 4 rfl rfl)
theorem dX1_checkIndex_7 : decode cX1_checkIndex 7 = .ok (.dup, 1) := dk_89 (dk_at dksX1_checkIndex_0 7 rfl rfl)
theorem dX1_checkIndex_8 : decode cX1_checkIndex 8 = .ok (.invokespecial 3, 3) := dk_183 0 3 (dk_at dksX1_checkIndex_0 8 rfl rfl)
theorem dX1_checkIndex_11 : decode cX1_checkIndex 11 = .ok (.athrow, 1) := dk_191 (dk_at dksX1_checkIndex_0 11 rfl rfl)
theorem dX1_checkIndex_12 : decode cX1_checkIndex 12 = .ok (.return_, 1) := dk_177 (dk_at dksX1_checkIndex_0 12 rfl rfl)
abbrev cX1_tracksAt : ByteArray := prog_1_method_27_code
def yX1_tracksAt : MethodName := ⟨RX1, "tracksAt", "(I)I"⟩
def dkwX1_tracksAt_2 : List UInt8 := [27, 160, 0, 7, 4, 167, 0, 4, 3, 184, 0, 170, 96, 61, 132, 3, 1, 167, 255, 197, 28, 172]
abbrev dktX1_tracksAt_2 : List UInt8 := dkwX1_tracksAt_2 ++ []
def dkwX1_tracksAt_1 : List UInt8 := [180, 0, 50, 29, 182, 0, 157, 182, 0, 167, 153, 0, 22, 42, 180, 0, 50, 29, 182, 0, 157, 180, 0, 221]
abbrev dktX1_tracksAt_1 : List UInt8 := dkwX1_tracksAt_1 ++ dktX1_tracksAt_2
def dkwX1_tracksAt_0 : List UInt8 := [3, 61, 3, 62, 29, 42, 180, 0, 50, 180, 0, 154, 185, 0, 123, 1, 0, 162, 0, 49, 28, 42]
abbrev dktX1_tracksAt_0 : List UInt8 := dkwX1_tracksAt_0 ++ dktX1_tracksAt_1
theorem dksX1_tracksAt_0 : cX1_tracksAt.data.toList.drop 0 = dktX1_tracksAt_0 := by decide +kernel
theorem dksX1_tracksAt_1 : cX1_tracksAt.data.toList.drop 22 = dktX1_tracksAt_1 := dk_seg dksX1_tracksAt_0 22 rfl rfl
theorem dksX1_tracksAt_2 : cX1_tracksAt.data.toList.drop 46 = dktX1_tracksAt_2 := dk_seg dksX1_tracksAt_1 24 rfl rfl
theorem dX1_tracksAt_0 : decode cX1_tracksAt 0 = .ok (.iconst 0, 1) := dk_3 (dk_at dksX1_tracksAt_0 0 rfl rfl)
theorem dX1_tracksAt_1 : decode cX1_tracksAt 1 = .ok (.istore_n 2, 1) := dk_61 (dk_at dksX1_tracksAt_0 1 rfl rfl)
theorem dX1_tracksAt_2 : decode cX1_tracksAt 2 = .ok (.iconst 0, 1) := dk_3 (dk_at dksX1_tracksAt_0 2 rfl rfl)
theorem dX1_tracksAt_3 : decode cX1_tracksAt 3 = .ok (.istore_n 3, 1) := dk_62 (dk_at dksX1_tracksAt_0 3 rfl rfl)
theorem dX1_tracksAt_4 : decode cX1_tracksAt 4 = .ok (.iload_n 3, 1) := dk_29 (dk_at dksX1_tracksAt_0 4 rfl rfl)
theorem dX1_tracksAt_5 : decode cX1_tracksAt 5 = .ok (.aload_n 0, 1) := dk_42 (dk_at dksX1_tracksAt_0 5 rfl rfl)
theorem dX1_tracksAt_6 : decode cX1_tracksAt 6 = .ok (.getfield 50, 3) := dk_180 0 50 (dk_at dksX1_tracksAt_0 6 rfl rfl)
theorem dX1_tracksAt_9 : decode cX1_tracksAt 9 = .ok (.getfield 154, 3) := dk_180 0 154 (dk_at dksX1_tracksAt_0 9 rfl rfl)
theorem dX1_tracksAt_12 : decode cX1_tracksAt 12 = .ok (.invokeinterface 123 1, 5) := by decide +kernel
theorem dX1_tracksAt_17 : decode cX1_tracksAt 17 = .ok (.if_icmp .ge 49, 3) := dk_162 0 49 (dk_at dksX1_tracksAt_0 17 rfl rfl)
theorem dX1_tracksAt_20 : decode cX1_tracksAt 20 = .ok (.iload_n 2, 1) := dk_28 (dk_at dksX1_tracksAt_0 20 rfl rfl)
theorem dX1_tracksAt_21 : decode cX1_tracksAt 21 = .ok (.aload_n 0, 1) := dk_42 (dk_at dksX1_tracksAt_0 21 rfl rfl)
theorem dX1_tracksAt_22 : decode cX1_tracksAt 22 = .ok (.getfield 50, 3) := dk_180 0 50 (dk_at dksX1_tracksAt_1 0 rfl rfl)
theorem dX1_tracksAt_25 : decode cX1_tracksAt 25 = .ok (.iload_n 3, 1) := dk_29 (dk_at dksX1_tracksAt_1 3 rfl rfl)
theorem dX1_tracksAt_26 : decode cX1_tracksAt 26 = .ok (.invokevirtual 157, 3) := dk_182 0 157 (dk_at dksX1_tracksAt_1 4 rfl rfl)
theorem dX1_tracksAt_29 : decode cX1_tracksAt 29 = .ok (.invokevirtual 167, 3) := dk_182 0 167 (dk_at dksX1_tracksAt_1 7 rfl rfl)
theorem dX1_tracksAt_32 : decode cX1_tracksAt 32 = .ok (.ifCond .eq 22, 3) := dk_153 0 22 (dk_at dksX1_tracksAt_1 10 rfl rfl)
theorem dX1_tracksAt_35 : decode cX1_tracksAt 35 = .ok (.aload_n 0, 1) := dk_42 (dk_at dksX1_tracksAt_1 13 rfl rfl)
theorem dX1_tracksAt_36 : decode cX1_tracksAt 36 = .ok (.getfield 50, 3) := dk_180 0 50 (dk_at dksX1_tracksAt_1 14 rfl rfl)
theorem dX1_tracksAt_39 : decode cX1_tracksAt 39 = .ok (.iload_n 3, 1) := dk_29 (dk_at dksX1_tracksAt_1 17 rfl rfl)
theorem dX1_tracksAt_40 : decode cX1_tracksAt 40 = .ok (.invokevirtual 157, 3) := dk_182 0 157 (dk_at dksX1_tracksAt_1 18 rfl rfl)
theorem dX1_tracksAt_43 : decode cX1_tracksAt 43 = .ok (.getfield 221, 3) := dk_180 0 221 (dk_at dksX1_tracksAt_1 21 rfl rfl)
theorem dX1_tracksAt_46 : decode cX1_tracksAt 46 = .ok (.iload_n 1, 1) := dk_27 (dk_at dksX1_tracksAt_2 0 rfl rfl)
theorem dX1_tracksAt_47 : decode cX1_tracksAt 47 = .ok (.if_icmp .ne 7, 3) := dk_160 0 7 (dk_at dksX1_tracksAt_2 1 rfl rfl)
theorem dX1_tracksAt_50 : decode cX1_tracksAt 50 = .ok (.iconst 1, 1) := dk_4 (dk_at dksX1_tracksAt_2 4 rfl rfl)
theorem dX1_tracksAt_51 : decode cX1_tracksAt 51 = .ok (.goto 4, 3) := dk_167 0 4 (dk_at dksX1_tracksAt_2 5 rfl rfl)
theorem dX1_tracksAt_54 : decode cX1_tracksAt 54 = .ok (.iconst 0, 1) := dk_3 (dk_at dksX1_tracksAt_2 8 rfl rfl)
theorem dX1_tracksAt_55 : decode cX1_tracksAt 55 = .ok (.invokestatic 170, 3) := dk_184 0 170 (dk_at dksX1_tracksAt_2 9 rfl rfl)
theorem dX1_tracksAt_58 : decode cX1_tracksAt 58 = .ok (.iadd, 1) := dk_96 (dk_at dksX1_tracksAt_2 12 rfl rfl)
theorem dX1_tracksAt_59 : decode cX1_tracksAt 59 = .ok (.istore_n 2, 1) := dk_61 (dk_at dksX1_tracksAt_2 13 rfl rfl)
theorem dX1_tracksAt_60 : decode cX1_tracksAt 60 = .ok (.iinc 3 1, 3) := dk_132 3 1 (dk_at dksX1_tracksAt_2 14 rfl rfl)
theorem dX1_tracksAt_63 : decode cX1_tracksAt 63 = .ok (.goto (-59), 3) := dk_167 255 197 (dk_at dksX1_tracksAt_2 17 rfl rfl)
theorem dX1_tracksAt_66 : decode cX1_tracksAt 66 = .ok (.iload_n 2, 1) := dk_28 (dk_at dksX1_tracksAt_2 20 rfl rfl)
theorem dX1_tracksAt_67 : decode cX1_tracksAt 67 = .ok (.ireturn, 1) := dk_172 (dk_at dksX1_tracksAt_2 21 rfl rfl)
abbrev cX1_parcel : ByteArray := prog_1_method_29_code
def yX1_parcel : MethodName := ⟨RX1, "parcel", "(II)I"⟩
def dkwX1_parcel_5 : List UInt8 := [89, 183, 0, 9, 191, 172]
abbrev dktX1_parcel_5 : List UInt8 := dkwX1_parcel_5 ++ []
def dkwX1_parcel_4 : List UInt8 := [45, 182, 0, 174, 167, 0, 25, 45, 180, 1, 11, 167, 0, 18, 45, 180, 1, 13, 167, 0, 11, 187, 0, 7]
abbrev dktX1_parcel_4 : List UInt8 := dkwX1_parcel_4 ++ dktX1_parcel_5
def dkwX1_parcel_3 : List UInt8 := [180, 1, 5, 167, 0, 50, 45, 180, 1, 8, 167, 0, 43, 45, 180, 0, 221, 167, 0, 36, 42, 180, 0, 50]
abbrev dktX1_parcel_3 : List UInt8 := dkwX1_parcel_3 ++ dktX1_parcel_4
def dkwX1_parcel_2 : List UInt8 := [45, 180, 0, 252, 167, 0, 71, 45, 180, 0, 255, 167, 0, 64, 45, 180, 1, 2, 167, 0, 57, 45]
abbrev dktX1_parcel_2 : List UInt8 := dkwX1_parcel_2 ++ dktX1_parcel_3
def dkwX1_parcel_1 : List UInt8 := [170, 0, 0, 0, 116, 0, 0, 0, 0, 0, 0, 0, 8, 0, 0, 0, 49, 0, 0, 0, 56, 0, 0, 0, 63, 0, 0, 0, 70, 0, 0, 0, 77, 0, 0, 0, 84, 0, 0, 0, 91, 0, 0, 0, 102, 0, 0, 0, 109]
abbrev dktX1_parcel_1 : List UInt8 := dkwX1_parcel_1 ++ dktX1_parcel_2
def dkwX1_parcel_0 : List UInt8 := [42, 27, 182, 0, 249, 78, 28]
abbrev dktX1_parcel_0 : List UInt8 := dkwX1_parcel_0 ++ dktX1_parcel_1
theorem dksX1_parcel_0 : cX1_parcel.data.toList.drop 0 = dktX1_parcel_0 := by decide +kernel
theorem dksX1_parcel_1 : cX1_parcel.data.toList.drop 7 = dktX1_parcel_1 := dk_seg dksX1_parcel_0 7 rfl rfl
theorem dksX1_parcel_2 : cX1_parcel.data.toList.drop 56 = dktX1_parcel_2 := dk_seg dksX1_parcel_1 49 rfl rfl
theorem dksX1_parcel_3 : cX1_parcel.data.toList.drop 78 = dktX1_parcel_3 := dk_seg dksX1_parcel_2 22 rfl rfl
theorem dksX1_parcel_4 : cX1_parcel.data.toList.drop 102 = dktX1_parcel_4 := dk_seg dksX1_parcel_3 24 rfl rfl
theorem dksX1_parcel_5 : cX1_parcel.data.toList.drop 126 = dktX1_parcel_5 := dk_seg dksX1_parcel_4 24 rfl rfl
theorem dX1_parcel_0 : decode cX1_parcel 0 = .ok (.aload_n 0, 1) := dk_42 (dk_at dksX1_parcel_0 0 rfl rfl)
theorem dX1_parcel_1 : decode cX1_parcel 1 = .ok (.iload_n 1, 1) := dk_27 (dk_at dksX1_parcel_0 1 rfl rfl)
theorem dX1_parcel_2 : decode cX1_parcel 2 = .ok (.invokevirtual 249, 3) := dk_182 0 249 (dk_at dksX1_parcel_0 2 rfl rfl)
theorem dX1_parcel_5 : decode cX1_parcel 5 = .ok (.astore_n 3, 1) := dk_78 (dk_at dksX1_parcel_0 5 rfl rfl)
theorem dX1_parcel_6 : decode cX1_parcel 6 = .ok (.iload_n 2, 1) := dk_28 (dk_at dksX1_parcel_0 6 rfl rfl)
theorem dX1_parcel_7 : decode cX1_parcel 7 = .ok (.tableswitch 116 0 8 #[49, 56, 63, 70, 77, 84, 91, 102, 109], 49) := by decide +kernel
theorem dX1_parcel_56 : decode cX1_parcel 56 = .ok (.aload_n 3, 1) := dk_45 (dk_at dksX1_parcel_2 0 rfl rfl)
theorem dX1_parcel_57 : decode cX1_parcel 57 = .ok (.getfield 252, 3) := dk_180 0 252 (dk_at dksX1_parcel_2 1 rfl rfl)
theorem dX1_parcel_60 : decode cX1_parcel 60 = .ok (.goto 71, 3) := dk_167 0 71 (dk_at dksX1_parcel_2 4 rfl rfl)
theorem dX1_parcel_63 : decode cX1_parcel 63 = .ok (.aload_n 3, 1) := dk_45 (dk_at dksX1_parcel_2 7 rfl rfl)
theorem dX1_parcel_64 : decode cX1_parcel 64 = .ok (.getfield 255, 3) := dk_180 0 255 (dk_at dksX1_parcel_2 8 rfl rfl)
theorem dX1_parcel_67 : decode cX1_parcel 67 = .ok (.goto 64, 3) := dk_167 0 64 (dk_at dksX1_parcel_2 11 rfl rfl)
theorem dX1_parcel_70 : decode cX1_parcel 70 = .ok (.aload_n 3, 1) := dk_45 (dk_at dksX1_parcel_2 14 rfl rfl)
theorem dX1_parcel_71 : decode cX1_parcel 71 = .ok (.getfield 258, 3) := dk_180 1 2 (dk_at dksX1_parcel_2 15 rfl rfl)
theorem dX1_parcel_74 : decode cX1_parcel 74 = .ok (.goto 57, 3) := dk_167 0 57 (dk_at dksX1_parcel_2 18 rfl rfl)
theorem dX1_parcel_77 : decode cX1_parcel 77 = .ok (.aload_n 3, 1) := dk_45 (dk_at dksX1_parcel_2 21 rfl rfl)
theorem dX1_parcel_78 : decode cX1_parcel 78 = .ok (.getfield 261, 3) := dk_180 1 5 (dk_at dksX1_parcel_3 0 rfl rfl)
theorem dX1_parcel_81 : decode cX1_parcel 81 = .ok (.goto 50, 3) := dk_167 0 50 (dk_at dksX1_parcel_3 3 rfl rfl)
theorem dX1_parcel_84 : decode cX1_parcel 84 = .ok (.aload_n 3, 1) := dk_45 (dk_at dksX1_parcel_3 6 rfl rfl)
theorem dX1_parcel_85 : decode cX1_parcel 85 = .ok (.getfield 264, 3) := dk_180 1 8 (dk_at dksX1_parcel_3 7 rfl rfl)
theorem dX1_parcel_88 : decode cX1_parcel 88 = .ok (.goto 43, 3) := dk_167 0 43 (dk_at dksX1_parcel_3 10 rfl rfl)
theorem dX1_parcel_91 : decode cX1_parcel 91 = .ok (.aload_n 3, 1) := dk_45 (dk_at dksX1_parcel_3 13 rfl rfl)
theorem dX1_parcel_92 : decode cX1_parcel 92 = .ok (.getfield 221, 3) := dk_180 0 221 (dk_at dksX1_parcel_3 14 rfl rfl)
theorem dX1_parcel_95 : decode cX1_parcel 95 = .ok (.goto 36, 3) := dk_167 0 36 (dk_at dksX1_parcel_3 17 rfl rfl)
theorem dX1_parcel_98 : decode cX1_parcel 98 = .ok (.aload_n 0, 1) := dk_42 (dk_at dksX1_parcel_3 20 rfl rfl)
theorem dX1_parcel_99 : decode cX1_parcel 99 = .ok (.getfield 50, 3) := dk_180 0 50 (dk_at dksX1_parcel_3 21 rfl rfl)
theorem dX1_parcel_102 : decode cX1_parcel 102 = .ok (.aload_n 3, 1) := dk_45 (dk_at dksX1_parcel_4 0 rfl rfl)
theorem dX1_parcel_103 : decode cX1_parcel 103 = .ok (.invokevirtual 174, 3) := dk_182 0 174 (dk_at dksX1_parcel_4 1 rfl rfl)
theorem dX1_parcel_106 : decode cX1_parcel 106 = .ok (.goto 25, 3) := dk_167 0 25 (dk_at dksX1_parcel_4 4 rfl rfl)
theorem dX1_parcel_109 : decode cX1_parcel 109 = .ok (.aload_n 3, 1) := dk_45 (dk_at dksX1_parcel_4 7 rfl rfl)
theorem dX1_parcel_110 : decode cX1_parcel 110 = .ok (.getfield 267, 3) := dk_180 1 11 (dk_at dksX1_parcel_4 8 rfl rfl)
theorem dX1_parcel_113 : decode cX1_parcel 113 = .ok (.goto 18, 3) := dk_167 0 18 (dk_at dksX1_parcel_4 11 rfl rfl)
theorem dX1_parcel_116 : decode cX1_parcel 116 = .ok (.aload_n 3, 1) := dk_45 (dk_at dksX1_parcel_4 14 rfl rfl)
theorem dX1_parcel_117 : decode cX1_parcel 117 = .ok (.getfield 269, 3) := dk_180 1 13 (dk_at dksX1_parcel_4 15 rfl rfl)
theorem dX1_parcel_120 : decode cX1_parcel 120 = .ok (.goto 11, 3) := dk_167 0 11 (dk_at dksX1_parcel_4 18 rfl rfl)
theorem dX1_parcel_123 : decode cX1_parcel 123 = .ok (.new 7, 3) := dk_187 0 7 (dk_at dksX1_parcel_4 21 rfl rfl)
theorem dX1_parcel_126 : decode cX1_parcel 126 = .ok (.dup, 1) := dk_89 (dk_at dksX1_parcel_5 0 rfl rfl)
theorem dX1_parcel_127 : decode cX1_parcel 127 = .ok (.invokespecial 9, 3) := dk_183 0 9 (dk_at dksX1_parcel_5 1 rfl rfl)
theorem dX1_parcel_130 : decode cX1_parcel 130 = .ok (.athrow, 1) := dk_191 (dk_at dksX1_parcel_5 4 rfl rfl)
theorem dX1_parcel_131 : decode cX1_parcel 131 = .ok (.ireturn, 1) := dk_172 (dk_at dksX1_parcel_5 5 rfl rfl)
abbrev cX1_parcelAt : ByteArray := prog_1_method_25_code
def yX1_parcelAt : MethodName := ⟨RX1, "parcelAt", "(I)LSortingLoop$Parcel;"⟩
def dkwX1_parcelAt_1 : List UInt8 := [42, 180, 0, 50, 27, 182, 0, 157, 176]
abbrev dktX1_parcelAt_1 : List UInt8 := dkwX1_parcelAt_1 ++ []
def dkwX1_parcelAt_0 : List UInt8 := [27, 133, 9, 42, 180, 0, 50, 180, 0, 154, 185, 0, 123, 1, 0, 4, 100, 133, 184, 0, 91, 184, 0, 214]
abbrev dktX1_parcelAt_0 : List UInt8 := dkwX1_parcelAt_0 ++ dktX1_parcelAt_1
theorem dksX1_parcelAt_0 : cX1_parcelAt.data.toList.drop 0 = dktX1_parcelAt_0 := by decide +kernel
theorem dksX1_parcelAt_1 : cX1_parcelAt.data.toList.drop 24 = dktX1_parcelAt_1 := dk_seg dksX1_parcelAt_0 24 rfl rfl
theorem dX1_parcelAt_0 : decode cX1_parcelAt 0 = .ok (.iload_n 1, 1) := dk_27 (dk_at dksX1_parcelAt_0 0 rfl rfl)
theorem dX1_parcelAt_1 : decode cX1_parcelAt 1 = .ok (.i2l, 1) := dk_133 (dk_at dksX1_parcelAt_0 1 rfl rfl)
theorem dX1_parcelAt_2 : decode cX1_parcelAt 2 = .ok (.lconst 0, 1) := dk_9 (dk_at dksX1_parcelAt_0 2 rfl rfl)
theorem dX1_parcelAt_3 : decode cX1_parcelAt 3 = .ok (.aload_n 0, 1) := dk_42 (dk_at dksX1_parcelAt_0 3 rfl rfl)
theorem dX1_parcelAt_4 : decode cX1_parcelAt 4 = .ok (.getfield 50, 3) := dk_180 0 50 (dk_at dksX1_parcelAt_0 4 rfl rfl)
theorem dX1_parcelAt_7 : decode cX1_parcelAt 7 = .ok (.getfield 154, 3) := dk_180 0 154 (dk_at dksX1_parcelAt_0 7 rfl rfl)
theorem dX1_parcelAt_10 : decode cX1_parcelAt 10 = .ok (.invokeinterface 123 1, 5) := by decide +kernel
theorem dX1_parcelAt_15 : decode cX1_parcelAt 15 = .ok (.iconst 1, 1) := dk_4 (dk_at dksX1_parcelAt_0 15 rfl rfl)
theorem dX1_parcelAt_16 : decode cX1_parcelAt 16 = .ok (.isub, 1) := dk_100 (dk_at dksX1_parcelAt_0 16 rfl rfl)
theorem dX1_parcelAt_17 : decode cX1_parcelAt 17 = .ok (.i2l, 1) := dk_133 (dk_at dksX1_parcelAt_0 17 rfl rfl)
theorem dX1_parcelAt_18 : decode cX1_parcelAt 18 = .ok (.invokestatic 91, 3) := dk_184 0 91 (dk_at dksX1_parcelAt_0 18 rfl rfl)
theorem dX1_parcelAt_21 : decode cX1_parcelAt 21 = .ok (.invokestatic 214, 3) := dk_184 0 214 (dk_at dksX1_parcelAt_0 21 rfl rfl)
theorem dX1_parcelAt_24 : decode cX1_parcelAt 24 = .ok (.aload_n 0, 1) := dk_42 (dk_at dksX1_parcelAt_1 0 rfl rfl)
theorem dX1_parcelAt_25 : decode cX1_parcelAt 25 = .ok (.getfield 50, 3) := dk_180 0 50 (dk_at dksX1_parcelAt_1 1 rfl rfl)
theorem dX1_parcelAt_28 : decode cX1_parcelAt 28 = .ok (.iload_n 1, 1) := dk_27 (dk_at dksX1_parcelAt_1 4 rfl rfl)
theorem dX1_parcelAt_29 : decode cX1_parcelAt 29 = .ok (.invokevirtual 157, 3) := dk_182 0 157 (dk_at dksX1_parcelAt_1 5 rfl rfl)
theorem dX1_parcelAt_32 : decode cX1_parcelAt 32 = .ok (.areturn, 1) := dk_176 (dk_at dksX1_parcelAt_1 8 rfl rfl)
abbrev cX1_chute : ByteArray := prog_1_method_31_code
def yX1_chute : MethodName := ⟨RX1, "chute", "(II)I"⟩
def dkwX1_chute_5 : List UInt8 := [167, 0, 19, 42, 27, 182, 1, 44, 167, 0, 11, 187, 0, 7, 89, 183, 0, 9, 191, 172]
abbrev dktX1_chute_5 : List UInt8 := dkwX1_chute_5 ++ []
def dkwX1_chute_4 : List UInt8 := [180, 1, 35, 185, 0, 123, 1, 0, 167, 0, 33, 45, 182, 1, 38, 167, 0, 26, 45, 180, 1, 41]
abbrev dktX1_chute_4 : List UInt8 := dkwX1_chute_4 ++ dktX1_chute_5
def dkwX1_chute_3 : List UInt8 := [180, 1, 25, 167, 0, 62, 45, 180, 1, 28, 167, 0, 55, 45, 180, 1, 31, 184, 0, 170, 167, 0, 45, 45]
abbrev dktX1_chute_3 : List UInt8 := dkwX1_chute_3 ++ dktX1_chute_4
def dkwX1_chute_2 : List UInt8 := [45, 180, 1, 18, 167, 0, 83, 45, 180, 1, 19, 167, 0, 76, 45, 180, 1, 22, 167, 0, 69, 45]
abbrev dktX1_chute_2 : List UInt8 := dkwX1_chute_2 ++ dktX1_chute_3
def dkwX1_chute_1 : List UInt8 := [170, 0, 0, 0, 132, 0, 0, 0, 0, 0, 0, 0, 9, 0, 0, 0, 53, 0, 0, 0, 60, 0, 0, 0, 67, 0, 0, 0, 74, 0, 0, 0, 81, 0, 0, 0, 88, 0, 0, 0, 98, 0, 0, 0, 110, 0, 0, 0, 117, 0, 0, 0, 124]
abbrev dktX1_chute_1 : List UInt8 := dkwX1_chute_1 ++ dktX1_chute_2
def dkwX1_chute_0 : List UInt8 := [42, 27, 182, 1, 16, 78, 28]
abbrev dktX1_chute_0 : List UInt8 := dkwX1_chute_0 ++ dktX1_chute_1
theorem dksX1_chute_0 : cX1_chute.data.toList.drop 0 = dktX1_chute_0 := by decide +kernel
theorem dksX1_chute_1 : cX1_chute.data.toList.drop 7 = dktX1_chute_1 := dk_seg dksX1_chute_0 7 rfl rfl
theorem dksX1_chute_2 : cX1_chute.data.toList.drop 60 = dktX1_chute_2 := dk_seg dksX1_chute_1 53 rfl rfl
theorem dksX1_chute_3 : cX1_chute.data.toList.drop 82 = dktX1_chute_3 := dk_seg dksX1_chute_2 22 rfl rfl
theorem dksX1_chute_4 : cX1_chute.data.toList.drop 106 = dktX1_chute_4 := dk_seg dksX1_chute_3 24 rfl rfl
theorem dksX1_chute_5 : cX1_chute.data.toList.drop 128 = dktX1_chute_5 := dk_seg dksX1_chute_4 22 rfl rfl
theorem dX1_chute_0 : decode cX1_chute 0 = .ok (.aload_n 0, 1) := dk_42 (dk_at dksX1_chute_0 0 rfl rfl)
theorem dX1_chute_1 : decode cX1_chute 1 = .ok (.iload_n 1, 1) := dk_27 (dk_at dksX1_chute_0 1 rfl rfl)
theorem dX1_chute_2 : decode cX1_chute 2 = .ok (.invokevirtual 272, 3) := dk_182 1 16 (dk_at dksX1_chute_0 2 rfl rfl)
theorem dX1_chute_5 : decode cX1_chute 5 = .ok (.astore_n 3, 1) := dk_78 (dk_at dksX1_chute_0 5 rfl rfl)
theorem dX1_chute_6 : decode cX1_chute 6 = .ok (.iload_n 2, 1) := dk_28 (dk_at dksX1_chute_0 6 rfl rfl)
theorem dX1_chute_7 : decode cX1_chute 7 = .ok (.tableswitch 132 0 9 #[53, 60, 67, 74, 81, 88, 98, 110, 117, 124], 53) := by decide +kernel
theorem dX1_chute_60 : decode cX1_chute 60 = .ok (.aload_n 3, 1) := dk_45 (dk_at dksX1_chute_2 0 rfl rfl)
theorem dX1_chute_61 : decode cX1_chute 61 = .ok (.getfield 274, 3) := dk_180 1 18 (dk_at dksX1_chute_2 1 rfl rfl)
theorem dX1_chute_64 : decode cX1_chute 64 = .ok (.goto 83, 3) := dk_167 0 83 (dk_at dksX1_chute_2 4 rfl rfl)
theorem dX1_chute_67 : decode cX1_chute 67 = .ok (.aload_n 3, 1) := dk_45 (dk_at dksX1_chute_2 7 rfl rfl)
theorem dX1_chute_68 : decode cX1_chute 68 = .ok (.getfield 275, 3) := dk_180 1 19 (dk_at dksX1_chute_2 8 rfl rfl)
theorem dX1_chute_71 : decode cX1_chute 71 = .ok (.goto 76, 3) := dk_167 0 76 (dk_at dksX1_chute_2 11 rfl rfl)
theorem dX1_chute_74 : decode cX1_chute 74 = .ok (.aload_n 3, 1) := dk_45 (dk_at dksX1_chute_2 14 rfl rfl)
theorem dX1_chute_75 : decode cX1_chute 75 = .ok (.getfield 278, 3) := dk_180 1 22 (dk_at dksX1_chute_2 15 rfl rfl)
theorem dX1_chute_78 : decode cX1_chute 78 = .ok (.goto 69, 3) := dk_167 0 69 (dk_at dksX1_chute_2 18 rfl rfl)
theorem dX1_chute_81 : decode cX1_chute 81 = .ok (.aload_n 3, 1) := dk_45 (dk_at dksX1_chute_2 21 rfl rfl)
theorem dX1_chute_82 : decode cX1_chute 82 = .ok (.getfield 281, 3) := dk_180 1 25 (dk_at dksX1_chute_3 0 rfl rfl)
theorem dX1_chute_85 : decode cX1_chute 85 = .ok (.goto 62, 3) := dk_167 0 62 (dk_at dksX1_chute_3 3 rfl rfl)
theorem dX1_chute_88 : decode cX1_chute 88 = .ok (.aload_n 3, 1) := dk_45 (dk_at dksX1_chute_3 6 rfl rfl)
theorem dX1_chute_89 : decode cX1_chute 89 = .ok (.getfield 284, 3) := dk_180 1 28 (dk_at dksX1_chute_3 7 rfl rfl)
theorem dX1_chute_92 : decode cX1_chute 92 = .ok (.goto 55, 3) := dk_167 0 55 (dk_at dksX1_chute_3 10 rfl rfl)
theorem dX1_chute_95 : decode cX1_chute 95 = .ok (.aload_n 3, 1) := dk_45 (dk_at dksX1_chute_3 13 rfl rfl)
theorem dX1_chute_96 : decode cX1_chute 96 = .ok (.getfield 287, 3) := dk_180 1 31 (dk_at dksX1_chute_3 14 rfl rfl)
theorem dX1_chute_99 : decode cX1_chute 99 = .ok (.invokestatic 170, 3) := dk_184 0 170 (dk_at dksX1_chute_3 17 rfl rfl)
theorem dX1_chute_102 : decode cX1_chute 102 = .ok (.goto 45, 3) := dk_167 0 45 (dk_at dksX1_chute_3 20 rfl rfl)
theorem dX1_chute_105 : decode cX1_chute 105 = .ok (.aload_n 3, 1) := dk_45 (dk_at dksX1_chute_3 23 rfl rfl)
theorem dX1_chute_106 : decode cX1_chute 106 = .ok (.getfield 291, 3) := dk_180 1 35 (dk_at dksX1_chute_4 0 rfl rfl)
theorem dX1_chute_109 : decode cX1_chute 109 = .ok (.invokeinterface 123 1, 5) := by decide +kernel
theorem dX1_chute_114 : decode cX1_chute 114 = .ok (.goto 33, 3) := dk_167 0 33 (dk_at dksX1_chute_4 8 rfl rfl)
theorem dX1_chute_117 : decode cX1_chute 117 = .ok (.aload_n 3, 1) := dk_45 (dk_at dksX1_chute_4 11 rfl rfl)
theorem dX1_chute_118 : decode cX1_chute 118 = .ok (.invokevirtual 294, 3) := dk_182 1 38 (dk_at dksX1_chute_4 12 rfl rfl)
theorem dX1_chute_121 : decode cX1_chute 121 = .ok (.goto 26, 3) := dk_167 0 26 (dk_at dksX1_chute_4 15 rfl rfl)
theorem dX1_chute_124 : decode cX1_chute 124 = .ok (.aload_n 3, 1) := dk_45 (dk_at dksX1_chute_4 18 rfl rfl)
theorem dX1_chute_125 : decode cX1_chute 125 = .ok (.getfield 297, 3) := dk_180 1 41 (dk_at dksX1_chute_4 19 rfl rfl)
theorem dX1_chute_128 : decode cX1_chute 128 = .ok (.goto 19, 3) := dk_167 0 19 (dk_at dksX1_chute_5 0 rfl rfl)
theorem dX1_chute_131 : decode cX1_chute 131 = .ok (.aload_n 0, 1) := dk_42 (dk_at dksX1_chute_5 3 rfl rfl)
theorem dX1_chute_132 : decode cX1_chute 132 = .ok (.iload_n 1, 1) := dk_27 (dk_at dksX1_chute_5 4 rfl rfl)
theorem dX1_chute_133 : decode cX1_chute 133 = .ok (.invokevirtual 300, 3) := dk_182 1 44 (dk_at dksX1_chute_5 5 rfl rfl)
theorem dX1_chute_136 : decode cX1_chute 136 = .ok (.goto 11, 3) := dk_167 0 11 (dk_at dksX1_chute_5 8 rfl rfl)
theorem dX1_chute_139 : decode cX1_chute 139 = .ok (.new 7, 3) := dk_187 0 7 (dk_at dksX1_chute_5 11 rfl rfl)
theorem dX1_chute_142 : decode cX1_chute 142 = .ok (.dup, 1) := dk_89 (dk_at dksX1_chute_5 14 rfl rfl)
theorem dX1_chute_143 : decode cX1_chute 143 = .ok (.invokespecial 9, 3) := dk_183 0 9 (dk_at dksX1_chute_5 15 rfl rfl)
theorem dX1_chute_146 : decode cX1_chute 146 = .ok (.athrow, 1) := dk_191 (dk_at dksX1_chute_5 18 rfl rfl)
theorem dX1_chute_147 : decode cX1_chute 147 = .ok (.ireturn, 1) := dk_172 (dk_at dksX1_chute_5 19 rfl rfl)
abbrev cX1_chuteAt : ByteArray := prog_1_method_26_code
def yX1_chuteAt : MethodName := ⟨RX1, "chuteAt", "(I)LSortingLoop$Chute;"⟩
def dkwX1_chuteAt_1 : List UInt8 := [42, 180, 0, 50, 27, 182, 0, 217, 176]
abbrev dktX1_chuteAt_1 : List UInt8 := dkwX1_chuteAt_1 ++ []
def dkwX1_chuteAt_0 : List UInt8 := [27, 133, 9, 42, 180, 0, 50, 180, 0, 69, 185, 0, 123, 1, 0, 4, 100, 133, 184, 0, 91, 184, 0, 214]
abbrev dktX1_chuteAt_0 : List UInt8 := dkwX1_chuteAt_0 ++ dktX1_chuteAt_1
theorem dksX1_chuteAt_0 : cX1_chuteAt.data.toList.drop 0 = dktX1_chuteAt_0 := by decide +kernel
theorem dksX1_chuteAt_1 : cX1_chuteAt.data.toList.drop 24 = dktX1_chuteAt_1 := dk_seg dksX1_chuteAt_0 24 rfl rfl
theorem dX1_chuteAt_0 : decode cX1_chuteAt 0 = .ok (.iload_n 1, 1) := dk_27 (dk_at dksX1_chuteAt_0 0 rfl rfl)
theorem dX1_chuteAt_1 : decode cX1_chuteAt 1 = .ok (.i2l, 1) := dk_133 (dk_at dksX1_chuteAt_0 1 rfl rfl)
theorem dX1_chuteAt_2 : decode cX1_chuteAt 2 = .ok (.lconst 0, 1) := dk_9 (dk_at dksX1_chuteAt_0 2 rfl rfl)
theorem dX1_chuteAt_3 : decode cX1_chuteAt 3 = .ok (.aload_n 0, 1) := dk_42 (dk_at dksX1_chuteAt_0 3 rfl rfl)
theorem dX1_chuteAt_4 : decode cX1_chuteAt 4 = .ok (.getfield 50, 3) := dk_180 0 50 (dk_at dksX1_chuteAt_0 4 rfl rfl)
theorem dX1_chuteAt_7 : decode cX1_chuteAt 7 = .ok (.getfield 69, 3) := dk_180 0 69 (dk_at dksX1_chuteAt_0 7 rfl rfl)
theorem dX1_chuteAt_10 : decode cX1_chuteAt 10 = .ok (.invokeinterface 123 1, 5) := by decide +kernel
theorem dX1_chuteAt_15 : decode cX1_chuteAt 15 = .ok (.iconst 1, 1) := dk_4 (dk_at dksX1_chuteAt_0 15 rfl rfl)
theorem dX1_chuteAt_16 : decode cX1_chuteAt 16 = .ok (.isub, 1) := dk_100 (dk_at dksX1_chuteAt_0 16 rfl rfl)
theorem dX1_chuteAt_17 : decode cX1_chuteAt 17 = .ok (.i2l, 1) := dk_133 (dk_at dksX1_chuteAt_0 17 rfl rfl)
theorem dX1_chuteAt_18 : decode cX1_chuteAt 18 = .ok (.invokestatic 91, 3) := dk_184 0 91 (dk_at dksX1_chuteAt_0 18 rfl rfl)
theorem dX1_chuteAt_21 : decode cX1_chuteAt 21 = .ok (.invokestatic 214, 3) := dk_184 0 214 (dk_at dksX1_chuteAt_0 21 rfl rfl)
theorem dX1_chuteAt_24 : decode cX1_chuteAt 24 = .ok (.aload_n 0, 1) := dk_42 (dk_at dksX1_chuteAt_1 0 rfl rfl)
theorem dX1_chuteAt_25 : decode cX1_chuteAt 25 = .ok (.getfield 50, 3) := dk_180 0 50 (dk_at dksX1_chuteAt_1 1 rfl rfl)
theorem dX1_chuteAt_28 : decode cX1_chuteAt 28 = .ok (.iload_n 1, 1) := dk_27 (dk_at dksX1_chuteAt_1 4 rfl rfl)
theorem dX1_chuteAt_29 : decode cX1_chuteAt 29 = .ok (.invokevirtual 217, 3) := dk_182 0 217 (dk_at dksX1_chuteAt_1 5 rfl rfl)
theorem dX1_chuteAt_32 : decode cX1_chuteAt 32 = .ok (.areturn, 1) := dk_176 (dk_at dksX1_chuteAt_1 8 rfl rfl)
abbrev cX1_comingTo : ByteArray := prog_1_method_30_code
def yX1_comingTo : MethodName := ⟨RX1, "comingTo", "(I)I"⟩
def dkwX1_comingTo_2 : List UInt8 := [27, 160, 0, 7, 4, 167, 0, 4, 3, 184, 0, 170, 96, 61, 132, 3, 1, 167, 255, 197, 28, 172]
abbrev dktX1_comingTo_2 : List UInt8 := dkwX1_comingTo_2 ++ []
def dkwX1_comingTo_1 : List UInt8 := [180, 0, 50, 29, 182, 0, 157, 182, 0, 161, 153, 0, 22, 42, 180, 0, 50, 29, 182, 0, 157, 180, 0, 252]
abbrev dktX1_comingTo_1 : List UInt8 := dkwX1_comingTo_1 ++ dktX1_comingTo_2
def dkwX1_comingTo_0 : List UInt8 := [3, 61, 3, 62, 29, 42, 180, 0, 50, 180, 0, 154, 185, 0, 123, 1, 0, 162, 0, 49, 28, 42]
abbrev dktX1_comingTo_0 : List UInt8 := dkwX1_comingTo_0 ++ dktX1_comingTo_1
theorem dksX1_comingTo_0 : cX1_comingTo.data.toList.drop 0 = dktX1_comingTo_0 := by decide +kernel
theorem dksX1_comingTo_1 : cX1_comingTo.data.toList.drop 22 = dktX1_comingTo_1 := dk_seg dksX1_comingTo_0 22 rfl rfl
theorem dksX1_comingTo_2 : cX1_comingTo.data.toList.drop 46 = dktX1_comingTo_2 := dk_seg dksX1_comingTo_1 24 rfl rfl
theorem dX1_comingTo_0 : decode cX1_comingTo 0 = .ok (.iconst 0, 1) := dk_3 (dk_at dksX1_comingTo_0 0 rfl rfl)
theorem dX1_comingTo_1 : decode cX1_comingTo 1 = .ok (.istore_n 2, 1) := dk_61 (dk_at dksX1_comingTo_0 1 rfl rfl)
theorem dX1_comingTo_2 : decode cX1_comingTo 2 = .ok (.iconst 0, 1) := dk_3 (dk_at dksX1_comingTo_0 2 rfl rfl)
theorem dX1_comingTo_3 : decode cX1_comingTo 3 = .ok (.istore_n 3, 1) := dk_62 (dk_at dksX1_comingTo_0 3 rfl rfl)
theorem dX1_comingTo_4 : decode cX1_comingTo 4 = .ok (.iload_n 3, 1) := dk_29 (dk_at dksX1_comingTo_0 4 rfl rfl)
theorem dX1_comingTo_5 : decode cX1_comingTo 5 = .ok (.aload_n 0, 1) := dk_42 (dk_at dksX1_comingTo_0 5 rfl rfl)
theorem dX1_comingTo_6 : decode cX1_comingTo 6 = .ok (.getfield 50, 3) := dk_180 0 50 (dk_at dksX1_comingTo_0 6 rfl rfl)
theorem dX1_comingTo_9 : decode cX1_comingTo 9 = .ok (.getfield 154, 3) := dk_180 0 154 (dk_at dksX1_comingTo_0 9 rfl rfl)
theorem dX1_comingTo_12 : decode cX1_comingTo 12 = .ok (.invokeinterface 123 1, 5) := by decide +kernel
theorem dX1_comingTo_17 : decode cX1_comingTo 17 = .ok (.if_icmp .ge 49, 3) := dk_162 0 49 (dk_at dksX1_comingTo_0 17 rfl rfl)
theorem dX1_comingTo_20 : decode cX1_comingTo 20 = .ok (.iload_n 2, 1) := dk_28 (dk_at dksX1_comingTo_0 20 rfl rfl)
theorem dX1_comingTo_21 : decode cX1_comingTo 21 = .ok (.aload_n 0, 1) := dk_42 (dk_at dksX1_comingTo_0 21 rfl rfl)
theorem dX1_comingTo_22 : decode cX1_comingTo 22 = .ok (.getfield 50, 3) := dk_180 0 50 (dk_at dksX1_comingTo_1 0 rfl rfl)
theorem dX1_comingTo_25 : decode cX1_comingTo 25 = .ok (.iload_n 3, 1) := dk_29 (dk_at dksX1_comingTo_1 3 rfl rfl)
theorem dX1_comingTo_26 : decode cX1_comingTo 26 = .ok (.invokevirtual 157, 3) := dk_182 0 157 (dk_at dksX1_comingTo_1 4 rfl rfl)
theorem dX1_comingTo_29 : decode cX1_comingTo 29 = .ok (.invokevirtual 161, 3) := dk_182 0 161 (dk_at dksX1_comingTo_1 7 rfl rfl)
theorem dX1_comingTo_32 : decode cX1_comingTo 32 = .ok (.ifCond .eq 22, 3) := dk_153 0 22 (dk_at dksX1_comingTo_1 10 rfl rfl)
theorem dX1_comingTo_35 : decode cX1_comingTo 35 = .ok (.aload_n 0, 1) := dk_42 (dk_at dksX1_comingTo_1 13 rfl rfl)
theorem dX1_comingTo_36 : decode cX1_comingTo 36 = .ok (.getfield 50, 3) := dk_180 0 50 (dk_at dksX1_comingTo_1 14 rfl rfl)
theorem dX1_comingTo_39 : decode cX1_comingTo 39 = .ok (.iload_n 3, 1) := dk_29 (dk_at dksX1_comingTo_1 17 rfl rfl)
theorem dX1_comingTo_40 : decode cX1_comingTo 40 = .ok (.invokevirtual 157, 3) := dk_182 0 157 (dk_at dksX1_comingTo_1 18 rfl rfl)
theorem dX1_comingTo_43 : decode cX1_comingTo 43 = .ok (.getfield 252, 3) := dk_180 0 252 (dk_at dksX1_comingTo_1 21 rfl rfl)
theorem dX1_comingTo_46 : decode cX1_comingTo 46 = .ok (.iload_n 1, 1) := dk_27 (dk_at dksX1_comingTo_2 0 rfl rfl)
theorem dX1_comingTo_47 : decode cX1_comingTo 47 = .ok (.if_icmp .ne 7, 3) := dk_160 0 7 (dk_at dksX1_comingTo_2 1 rfl rfl)
theorem dX1_comingTo_50 : decode cX1_comingTo 50 = .ok (.iconst 1, 1) := dk_4 (dk_at dksX1_comingTo_2 4 rfl rfl)
theorem dX1_comingTo_51 : decode cX1_comingTo 51 = .ok (.goto 4, 3) := dk_167 0 4 (dk_at dksX1_comingTo_2 5 rfl rfl)
theorem dX1_comingTo_54 : decode cX1_comingTo 54 = .ok (.iconst 0, 1) := dk_3 (dk_at dksX1_comingTo_2 8 rfl rfl)
theorem dX1_comingTo_55 : decode cX1_comingTo 55 = .ok (.invokestatic 170, 3) := dk_184 0 170 (dk_at dksX1_comingTo_2 9 rfl rfl)
theorem dX1_comingTo_58 : decode cX1_comingTo 58 = .ok (.iadd, 1) := dk_96 (dk_at dksX1_comingTo_2 12 rfl rfl)
theorem dX1_comingTo_59 : decode cX1_comingTo 59 = .ok (.istore_n 2, 1) := dk_61 (dk_at dksX1_comingTo_2 13 rfl rfl)
theorem dX1_comingTo_60 : decode cX1_comingTo 60 = .ok (.iinc 3 1, 3) := dk_132 3 1 (dk_at dksX1_comingTo_2 14 rfl rfl)
theorem dX1_comingTo_63 : decode cX1_comingTo 63 = .ok (.goto (-59), 3) := dk_167 255 197 (dk_at dksX1_comingTo_2 17 rfl rfl)
theorem dX1_comingTo_66 : decode cX1_comingTo 66 = .ok (.iload_n 2, 1) := dk_28 (dk_at dksX1_comingTo_2 20 rfl rfl)
theorem dX1_comingTo_67 : decode cX1_comingTo 67 = .ok (.ireturn, 1) := dk_172 (dk_at dksX1_comingTo_2 21 rfl rfl)
abbrev cX1_held : ByteArray := prog_1_method_32_code
def yX1_held : MethodName := ⟨RX1, "held", "(II)I"⟩
def dkwX1_held_1 : List UInt8 := [153, 0, 22, 45, 180, 1, 35, 28, 185, 0, 144, 2, 0, 192, 0, 162, 180, 1, 47, 167, 0, 4, 2, 172]
abbrev dktX1_held_1 : List UInt8 := dkwX1_held_1 ++ []
def dkwX1_held_0 : List UInt8 := [42, 27, 182, 1, 16, 78, 28, 133, 9, 45, 180, 1, 35, 185, 0, 123, 1, 0, 4, 100, 133, 184, 0, 91]
abbrev dktX1_held_0 : List UInt8 := dkwX1_held_0 ++ dktX1_held_1
theorem dksX1_held_0 : cX1_held.data.toList.drop 0 = dktX1_held_0 := by decide +kernel
theorem dksX1_held_1 : cX1_held.data.toList.drop 24 = dktX1_held_1 := dk_seg dksX1_held_0 24 rfl rfl
theorem dX1_held_0 : decode cX1_held 0 = .ok (.aload_n 0, 1) := dk_42 (dk_at dksX1_held_0 0 rfl rfl)
theorem dX1_held_1 : decode cX1_held 1 = .ok (.iload_n 1, 1) := dk_27 (dk_at dksX1_held_0 1 rfl rfl)
theorem dX1_held_2 : decode cX1_held 2 = .ok (.invokevirtual 272, 3) := dk_182 1 16 (dk_at dksX1_held_0 2 rfl rfl)
theorem dX1_held_5 : decode cX1_held 5 = .ok (.astore_n 3, 1) := dk_78 (dk_at dksX1_held_0 5 rfl rfl)
theorem dX1_held_6 : decode cX1_held 6 = .ok (.iload_n 2, 1) := dk_28 (dk_at dksX1_held_0 6 rfl rfl)
theorem dX1_held_7 : decode cX1_held 7 = .ok (.i2l, 1) := dk_133 (dk_at dksX1_held_0 7 rfl rfl)
theorem dX1_held_8 : decode cX1_held 8 = .ok (.lconst 0, 1) := dk_9 (dk_at dksX1_held_0 8 rfl rfl)
theorem dX1_held_9 : decode cX1_held 9 = .ok (.aload_n 3, 1) := dk_45 (dk_at dksX1_held_0 9 rfl rfl)
theorem dX1_held_10 : decode cX1_held 10 = .ok (.getfield 291, 3) := dk_180 1 35 (dk_at dksX1_held_0 10 rfl rfl)
theorem dX1_held_13 : decode cX1_held 13 = .ok (.invokeinterface 123 1, 5) := by decide +kernel
theorem dX1_held_18 : decode cX1_held 18 = .ok (.iconst 1, 1) := dk_4 (dk_at dksX1_held_0 18 rfl rfl)
theorem dX1_held_19 : decode cX1_held 19 = .ok (.isub, 1) := dk_100 (dk_at dksX1_held_0 19 rfl rfl)
theorem dX1_held_20 : decode cX1_held 20 = .ok (.i2l, 1) := dk_133 (dk_at dksX1_held_0 20 rfl rfl)
theorem dX1_held_21 : decode cX1_held 21 = .ok (.invokestatic 91, 3) := dk_184 0 91 (dk_at dksX1_held_0 21 rfl rfl)
theorem dX1_held_24 : decode cX1_held 24 = .ok (.ifCond .eq 22, 3) := dk_153 0 22 (dk_at dksX1_held_1 0 rfl rfl)
theorem dX1_held_27 : decode cX1_held 27 = .ok (.aload_n 3, 1) := dk_45 (dk_at dksX1_held_1 3 rfl rfl)
theorem dX1_held_28 : decode cX1_held 28 = .ok (.getfield 291, 3) := dk_180 1 35 (dk_at dksX1_held_1 4 rfl rfl)
theorem dX1_held_31 : decode cX1_held 31 = .ok (.iload_n 2, 1) := dk_28 (dk_at dksX1_held_1 7 rfl rfl)
theorem dX1_held_32 : decode cX1_held 32 = .ok (.invokeinterface 144 2, 5) := by decide +kernel
theorem dX1_held_37 : decode cX1_held 37 = .ok (.checkcast 162, 3) := dk_192 0 162 (dk_at dksX1_held_1 13 rfl rfl)
theorem dX1_held_40 : decode cX1_held 40 = .ok (.getfield 303, 3) := dk_180 1 47 (dk_at dksX1_held_1 16 rfl rfl)
theorem dX1_held_43 : decode cX1_held 43 = .ok (.goto 4, 3) := dk_167 0 4 (dk_at dksX1_held_1 19 rfl rfl)
theorem dX1_held_46 : decode cX1_held 46 = .ok (.iconst (-1), 1) := dk_2 (dk_at dksX1_held_1 22 rfl rfl)
theorem dX1_held_47 : decode cX1_held 47 = .ok (.ireturn, 1) := dk_172 (dk_at dksX1_held_1 23 rfl rfl)
abbrev cX1_steps : ByteArray := prog_1_method_33_code
def yX1_steps : MethodName := ⟨RX1, "steps", "(II)I"⟩
def dkwX1_steps_0 : List UInt8 := [42, 27, 182, 0, 224, 42, 28, 182, 0, 224, 42, 180, 0, 50, 27, 28, 182, 1, 50, 172]
abbrev dktX1_steps_0 : List UInt8 := dkwX1_steps_0 ++ []
theorem dksX1_steps_0 : cX1_steps.data.toList.drop 0 = dktX1_steps_0 := by decide +kernel
theorem dX1_steps_0 : decode cX1_steps 0 = .ok (.aload_n 0, 1) := dk_42 (dk_at dksX1_steps_0 0 rfl rfl)
theorem dX1_steps_1 : decode cX1_steps 1 = .ok (.iload_n 1, 1) := dk_27 (dk_at dksX1_steps_0 1 rfl rfl)
theorem dX1_steps_2 : decode cX1_steps 2 = .ok (.invokevirtual 224, 3) := dk_182 0 224 (dk_at dksX1_steps_0 2 rfl rfl)
theorem dX1_steps_5 : decode cX1_steps 5 = .ok (.aload_n 0, 1) := dk_42 (dk_at dksX1_steps_0 5 rfl rfl)
theorem dX1_steps_6 : decode cX1_steps 6 = .ok (.iload_n 2, 1) := dk_28 (dk_at dksX1_steps_0 6 rfl rfl)
theorem dX1_steps_7 : decode cX1_steps 7 = .ok (.invokevirtual 224, 3) := dk_182 0 224 (dk_at dksX1_steps_0 7 rfl rfl)
theorem dX1_steps_10 : decode cX1_steps 10 = .ok (.aload_n 0, 1) := dk_42 (dk_at dksX1_steps_0 10 rfl rfl)
theorem dX1_steps_11 : decode cX1_steps 11 = .ok (.getfield 50, 3) := dk_180 0 50 (dk_at dksX1_steps_0 11 rfl rfl)
theorem dX1_steps_14 : decode cX1_steps 14 = .ok (.iload_n 1, 1) := dk_27 (dk_at dksX1_steps_0 14 rfl rfl)
theorem dX1_steps_15 : decode cX1_steps 15 = .ok (.iload_n 2, 1) := dk_28 (dk_at dksX1_steps_0 15 rfl rfl)
theorem dX1_steps_16 : decode cX1_steps 16 = .ok (.invokevirtual 306, 3) := dk_182 1 50 (dk_at dksX1_steps_0 16 rfl rfl)
theorem dX1_steps_19 : decode cX1_steps 19 = .ok (.ireturn, 1) := dk_172 (dk_at dksX1_steps_0 19 rfl rfl)
abbrev cX1_toScanner : ByteArray := prog_1_method_35_code
def yX1_toScanner : MethodName := ⟨RX1, "toScanner", "(I)I"⟩
def dkwX1_toScanner_0 : List UInt8 := [42, 42, 27, 182, 0, 249, 182, 1, 54, 172]
abbrev dktX1_toScanner_0 : List UInt8 := dkwX1_toScanner_0 ++ []
theorem dksX1_toScanner_0 : cX1_toScanner.data.toList.drop 0 = dktX1_toScanner_0 := by decide +kernel
theorem dX1_toScanner_0 : decode cX1_toScanner 0 = .ok (.aload_n 0, 1) := dk_42 (dk_at dksX1_toScanner_0 0 rfl rfl)
theorem dX1_toScanner_1 : decode cX1_toScanner 1 = .ok (.aload_n 0, 1) := dk_42 (dk_at dksX1_toScanner_0 1 rfl rfl)
theorem dX1_toScanner_2 : decode cX1_toScanner 2 = .ok (.iload_n 1, 1) := dk_27 (dk_at dksX1_toScanner_0 2 rfl rfl)
theorem dX1_toScanner_3 : decode cX1_toScanner 3 = .ok (.invokevirtual 249, 3) := dk_182 0 249 (dk_at dksX1_toScanner_0 3 rfl rfl)
theorem dX1_toScanner_6 : decode cX1_toScanner 6 = .ok (.invokevirtual 310, 3) := dk_182 1 54 (dk_at dksX1_toScanner_0 6 rfl rfl)
theorem dX1_toScanner_9 : decode cX1_toScanner 9 = .ok (.ireturn, 1) := dk_172 (dk_at dksX1_toScanner_0 9 rfl rfl)
abbrev cX1_stepsToScanner : ByteArray := prog_1_method_34_code
def yX1_stepsToScanner : MethodName := ⟨RX1, "stepsToScanner", "(LSortingLoop$Parcel;)I"⟩
def dkwX1_stepsToScanner_2 : List UInt8 := [28, 172, 132, 2, 1, 167, 255, 215, 2, 172]
abbrev dktX1_stepsToScanner_2 : List UInt8 := dkwX1_stepsToScanner_2 ++ []
def dkwX1_stepsToScanner_1 : List UInt8 := [180, 0, 50, 180, 0, 65, 43, 180, 1, 8, 28, 96, 42, 180, 0, 50, 180, 0, 178, 112, 51, 153, 0, 5]
abbrev dktX1_stepsToScanner_1 : List UInt8 := dkwX1_stepsToScanner_1 ++ dktX1_stepsToScanner_2
def dkwX1_stepsToScanner_0 : List UInt8 := [43, 182, 0, 161, 154, 0, 5, 2, 172, 4, 61, 28, 42, 180, 0, 50, 180, 0, 178, 163, 0, 36, 42]
abbrev dktX1_stepsToScanner_0 : List UInt8 := dkwX1_stepsToScanner_0 ++ dktX1_stepsToScanner_1
theorem dksX1_stepsToScanner_0 : cX1_stepsToScanner.data.toList.drop 0 = dktX1_stepsToScanner_0 := by decide +kernel
theorem dksX1_stepsToScanner_1 : cX1_stepsToScanner.data.toList.drop 23 = dktX1_stepsToScanner_1 := dk_seg dksX1_stepsToScanner_0 23 rfl rfl
theorem dksX1_stepsToScanner_2 : cX1_stepsToScanner.data.toList.drop 47 = dktX1_stepsToScanner_2 := dk_seg dksX1_stepsToScanner_1 24 rfl rfl
theorem dX1_stepsToScanner_0 : decode cX1_stepsToScanner 0 = .ok (.aload_n 1, 1) := dk_43 (dk_at dksX1_stepsToScanner_0 0 rfl rfl)
theorem dX1_stepsToScanner_1 : decode cX1_stepsToScanner 1 = .ok (.invokevirtual 161, 3) := dk_182 0 161 (dk_at dksX1_stepsToScanner_0 1 rfl rfl)
theorem dX1_stepsToScanner_4 : decode cX1_stepsToScanner 4 = .ok (.ifCond .ne 5, 3) := dk_154 0 5 (dk_at dksX1_stepsToScanner_0 4 rfl rfl)
theorem dX1_stepsToScanner_7 : decode cX1_stepsToScanner 7 = .ok (.iconst (-1), 1) := dk_2 (dk_at dksX1_stepsToScanner_0 7 rfl rfl)
theorem dX1_stepsToScanner_8 : decode cX1_stepsToScanner 8 = .ok (.ireturn, 1) := dk_172 (dk_at dksX1_stepsToScanner_0 8 rfl rfl)
theorem dX1_stepsToScanner_9 : decode cX1_stepsToScanner 9 = .ok (.iconst 1, 1) := dk_4 (dk_at dksX1_stepsToScanner_0 9 rfl rfl)
theorem dX1_stepsToScanner_10 : decode cX1_stepsToScanner 10 = .ok (.istore_n 2, 1) := dk_61 (dk_at dksX1_stepsToScanner_0 10 rfl rfl)
theorem dX1_stepsToScanner_11 : decode cX1_stepsToScanner 11 = .ok (.iload_n 2, 1) := dk_28 (dk_at dksX1_stepsToScanner_0 11 rfl rfl)
theorem dX1_stepsToScanner_12 : decode cX1_stepsToScanner 12 = .ok (.aload_n 0, 1) := dk_42 (dk_at dksX1_stepsToScanner_0 12 rfl rfl)
theorem dX1_stepsToScanner_13 : decode cX1_stepsToScanner 13 = .ok (.getfield 50, 3) := dk_180 0 50 (dk_at dksX1_stepsToScanner_0 13 rfl rfl)
theorem dX1_stepsToScanner_16 : decode cX1_stepsToScanner 16 = .ok (.getfield 178, 3) := dk_180 0 178 (dk_at dksX1_stepsToScanner_0 16 rfl rfl)
theorem dX1_stepsToScanner_19 : decode cX1_stepsToScanner 19 = .ok (.if_icmp .gt 36, 3) := dk_163 0 36 (dk_at dksX1_stepsToScanner_0 19 rfl rfl)
theorem dX1_stepsToScanner_22 : decode cX1_stepsToScanner 22 = .ok (.aload_n 0, 1) := dk_42 (dk_at dksX1_stepsToScanner_0 22 rfl rfl)
theorem dX1_stepsToScanner_23 : decode cX1_stepsToScanner 23 = .ok (.getfield 50, 3) := dk_180 0 50 (dk_at dksX1_stepsToScanner_1 0 rfl rfl)
theorem dX1_stepsToScanner_26 : decode cX1_stepsToScanner 26 = .ok (.getfield 65, 3) := dk_180 0 65 (dk_at dksX1_stepsToScanner_1 3 rfl rfl)
theorem dX1_stepsToScanner_29 : decode cX1_stepsToScanner 29 = .ok (.aload_n 1, 1) := dk_43 (dk_at dksX1_stepsToScanner_1 6 rfl rfl)
theorem dX1_stepsToScanner_30 : decode cX1_stepsToScanner 30 = .ok (.getfield 264, 3) := dk_180 1 8 (dk_at dksX1_stepsToScanner_1 7 rfl rfl)
theorem dX1_stepsToScanner_33 : decode cX1_stepsToScanner 33 = .ok (.iload_n 2, 1) := dk_28 (dk_at dksX1_stepsToScanner_1 10 rfl rfl)
theorem dX1_stepsToScanner_34 : decode cX1_stepsToScanner 34 = .ok (.iadd, 1) := dk_96 (dk_at dksX1_stepsToScanner_1 11 rfl rfl)
theorem dX1_stepsToScanner_35 : decode cX1_stepsToScanner 35 = .ok (.aload_n 0, 1) := dk_42 (dk_at dksX1_stepsToScanner_1 12 rfl rfl)
theorem dX1_stepsToScanner_36 : decode cX1_stepsToScanner 36 = .ok (.getfield 50, 3) := dk_180 0 50 (dk_at dksX1_stepsToScanner_1 13 rfl rfl)
theorem dX1_stepsToScanner_39 : decode cX1_stepsToScanner 39 = .ok (.getfield 178, 3) := dk_180 0 178 (dk_at dksX1_stepsToScanner_1 16 rfl rfl)
theorem dX1_stepsToScanner_42 : decode cX1_stepsToScanner 42 = .ok (.irem, 1) := dk_112 (dk_at dksX1_stepsToScanner_1 19 rfl rfl)
theorem dX1_stepsToScanner_43 : decode cX1_stepsToScanner 43 = .ok (.baload, 1) := dk_51 (dk_at dksX1_stepsToScanner_1 20 rfl rfl)
theorem dX1_stepsToScanner_44 : decode cX1_stepsToScanner 44 = .ok (.ifCond .eq 5, 3) := dk_153 0 5 (dk_at dksX1_stepsToScanner_1 21 rfl rfl)
theorem dX1_stepsToScanner_47 : decode cX1_stepsToScanner 47 = .ok (.iload_n 2, 1) := dk_28 (dk_at dksX1_stepsToScanner_2 0 rfl rfl)
theorem dX1_stepsToScanner_48 : decode cX1_stepsToScanner 48 = .ok (.ireturn, 1) := dk_172 (dk_at dksX1_stepsToScanner_2 1 rfl rfl)
theorem dX1_stepsToScanner_49 : decode cX1_stepsToScanner 49 = .ok (.iinc 2 1, 3) := dk_132 2 1 (dk_at dksX1_stepsToScanner_2 2 rfl rfl)
theorem dX1_stepsToScanner_52 : decode cX1_stepsToScanner 52 = .ok (.goto (-41), 3) := dk_167 255 215 (dk_at dksX1_stepsToScanner_2 5 rfl rfl)
theorem dX1_stepsToScanner_55 : decode cX1_stepsToScanner 55 = .ok (.iconst (-1), 1) := dk_2 (dk_at dksX1_stepsToScanner_2 8 rfl rfl)
theorem dX1_stepsToScanner_56 : decode cX1_stepsToScanner 56 = .ok (.ireturn, 1) := dk_172 (dk_at dksX1_stepsToScanner_2 9 rfl rfl)
abbrev cX1_toChute : ByteArray := prog_1_method_37_code
def yX1_toChute : MethodName := ⟨RX1, "toChute", "(I)I"⟩
def dkwX1_toChute_0 : List UInt8 := [42, 42, 27, 182, 0, 249, 182, 1, 57, 172]
abbrev dktX1_toChute_0 : List UInt8 := dkwX1_toChute_0 ++ []
theorem dksX1_toChute_0 : cX1_toChute.data.toList.drop 0 = dktX1_toChute_0 := by decide +kernel
theorem dX1_toChute_0 : decode cX1_toChute 0 = .ok (.aload_n 0, 1) := dk_42 (dk_at dksX1_toChute_0 0 rfl rfl)
theorem dX1_toChute_1 : decode cX1_toChute 1 = .ok (.aload_n 0, 1) := dk_42 (dk_at dksX1_toChute_0 1 rfl rfl)
theorem dX1_toChute_2 : decode cX1_toChute 2 = .ok (.iload_n 1, 1) := dk_27 (dk_at dksX1_toChute_0 2 rfl rfl)
theorem dX1_toChute_3 : decode cX1_toChute 3 = .ok (.invokevirtual 249, 3) := dk_182 0 249 (dk_at dksX1_toChute_0 3 rfl rfl)
theorem dX1_toChute_6 : decode cX1_toChute 6 = .ok (.invokevirtual 313, 3) := dk_182 1 57 (dk_at dksX1_toChute_0 6 rfl rfl)
theorem dX1_toChute_9 : decode cX1_toChute 9 = .ok (.ireturn, 1) := dk_172 (dk_at dksX1_toChute_0 9 rfl rfl)
abbrev cX1_stepsToChute : ByteArray := prog_1_method_36_code
def yX1_stepsToChute : MethodName := ⟨RX1, "stepsToChute", "(LSortingLoop$Parcel;)I"⟩
def dkwX1_stepsToChute_2 : List UInt8 := [167, 0, 4, 28, 172]
abbrev dktX1_stepsToChute_2 : List UInt8 := dkwX1_stepsToChute_2 ++ []
def dkwX1_stepsToChute_1 : List UInt8 := [180, 0, 252, 182, 0, 217, 180, 1, 18, 182, 1, 50, 61, 28, 154, 0, 13, 42, 180, 0, 50, 180, 0, 178]
abbrev dktX1_stepsToChute_1 : List UInt8 := dkwX1_stepsToChute_1 ++ dktX1_stepsToChute_2
def dkwX1_stepsToChute_0 : List UInt8 := [43, 182, 0, 167, 154, 0, 5, 2, 172, 42, 180, 0, 50, 43, 180, 0, 221, 42, 180, 0, 50, 43]
abbrev dktX1_stepsToChute_0 : List UInt8 := dkwX1_stepsToChute_0 ++ dktX1_stepsToChute_1
theorem dksX1_stepsToChute_0 : cX1_stepsToChute.data.toList.drop 0 = dktX1_stepsToChute_0 := by decide +kernel
theorem dksX1_stepsToChute_1 : cX1_stepsToChute.data.toList.drop 22 = dktX1_stepsToChute_1 := dk_seg dksX1_stepsToChute_0 22 rfl rfl
theorem dksX1_stepsToChute_2 : cX1_stepsToChute.data.toList.drop 46 = dktX1_stepsToChute_2 := dk_seg dksX1_stepsToChute_1 24 rfl rfl
theorem dX1_stepsToChute_0 : decode cX1_stepsToChute 0 = .ok (.aload_n 1, 1) := dk_43 (dk_at dksX1_stepsToChute_0 0 rfl rfl)
theorem dX1_stepsToChute_1 : decode cX1_stepsToChute 1 = .ok (.invokevirtual 167, 3) := dk_182 0 167 (dk_at dksX1_stepsToChute_0 1 rfl rfl)
theorem dX1_stepsToChute_4 : decode cX1_stepsToChute 4 = .ok (.ifCond .ne 5, 3) := dk_154 0 5 (dk_at dksX1_stepsToChute_0 4 rfl rfl)
theorem dX1_stepsToChute_7 : decode cX1_stepsToChute 7 = .ok (.iconst (-1), 1) := dk_2 (dk_at dksX1_stepsToChute_0 7 rfl rfl)
theorem dX1_stepsToChute_8 : decode cX1_stepsToChute 8 = .ok (.ireturn, 1) := dk_172 (dk_at dksX1_stepsToChute_0 8 rfl rfl)
theorem dX1_stepsToChute_9 : decode cX1_stepsToChute 9 = .ok (.aload_n 0, 1) := dk_42 (dk_at dksX1_stepsToChute_0 9 rfl rfl)
theorem dX1_stepsToChute_10 : decode cX1_stepsToChute 10 = .ok (.getfield 50, 3) := dk_180 0 50 (dk_at dksX1_stepsToChute_0 10 rfl rfl)
theorem dX1_stepsToChute_13 : decode cX1_stepsToChute 13 = .ok (.aload_n 1, 1) := dk_43 (dk_at dksX1_stepsToChute_0 13 rfl rfl)
theorem dX1_stepsToChute_14 : decode cX1_stepsToChute 14 = .ok (.getfield 221, 3) := dk_180 0 221 (dk_at dksX1_stepsToChute_0 14 rfl rfl)
theorem dX1_stepsToChute_17 : decode cX1_stepsToChute 17 = .ok (.aload_n 0, 1) := dk_42 (dk_at dksX1_stepsToChute_0 17 rfl rfl)
theorem dX1_stepsToChute_18 : decode cX1_stepsToChute 18 = .ok (.getfield 50, 3) := dk_180 0 50 (dk_at dksX1_stepsToChute_0 18 rfl rfl)
theorem dX1_stepsToChute_21 : decode cX1_stepsToChute 21 = .ok (.aload_n 1, 1) := dk_43 (dk_at dksX1_stepsToChute_0 21 rfl rfl)
theorem dX1_stepsToChute_22 : decode cX1_stepsToChute 22 = .ok (.getfield 252, 3) := dk_180 0 252 (dk_at dksX1_stepsToChute_1 0 rfl rfl)
theorem dX1_stepsToChute_25 : decode cX1_stepsToChute 25 = .ok (.invokevirtual 217, 3) := dk_182 0 217 (dk_at dksX1_stepsToChute_1 3 rfl rfl)
theorem dX1_stepsToChute_28 : decode cX1_stepsToChute 28 = .ok (.getfield 274, 3) := dk_180 1 18 (dk_at dksX1_stepsToChute_1 6 rfl rfl)
theorem dX1_stepsToChute_31 : decode cX1_stepsToChute 31 = .ok (.invokevirtual 306, 3) := dk_182 1 50 (dk_at dksX1_stepsToChute_1 9 rfl rfl)
theorem dX1_stepsToChute_34 : decode cX1_stepsToChute 34 = .ok (.istore_n 2, 1) := dk_61 (dk_at dksX1_stepsToChute_1 12 rfl rfl)
theorem dX1_stepsToChute_35 : decode cX1_stepsToChute 35 = .ok (.iload_n 2, 1) := dk_28 (dk_at dksX1_stepsToChute_1 13 rfl rfl)
theorem dX1_stepsToChute_36 : decode cX1_stepsToChute 36 = .ok (.ifCond .ne 13, 3) := dk_154 0 13 (dk_at dksX1_stepsToChute_1 14 rfl rfl)
theorem dX1_stepsToChute_39 : decode cX1_stepsToChute 39 = .ok (.aload_n 0, 1) := dk_42 (dk_at dksX1_stepsToChute_1 17 rfl rfl)
theorem dX1_stepsToChute_40 : decode cX1_stepsToChute 40 = .ok (.getfield 50, 3) := dk_180 0 50 (dk_at dksX1_stepsToChute_1 18 rfl rfl)
theorem dX1_stepsToChute_43 : decode cX1_stepsToChute 43 = .ok (.getfield 178, 3) := dk_180 0 178 (dk_at dksX1_stepsToChute_1 21 rfl rfl)
theorem dX1_stepsToChute_46 : decode cX1_stepsToChute 46 = .ok (.goto 4, 3) := dk_167 0 4 (dk_at dksX1_stepsToChute_2 0 rfl rfl)
theorem dX1_stepsToChute_49 : decode cX1_stepsToChute 49 = .ok (.iload_n 2, 1) := dk_28 (dk_at dksX1_stepsToChute_2 3 rfl rfl)
theorem dX1_stepsToChute_50 : decode cX1_stepsToChute 50 = .ok (.ireturn, 1) := dk_172 (dk_at dksX1_stepsToChute_2 4 rfl rfl)
abbrev cX1_why : ByteArray := prog_1_method_41_code
def yX1_why : MethodName := ⟨RX1, "why", "(II)I"⟩
def dkwX1_why_2 : List UInt8 := [167, 0, 10, 42, 45, 21, 4, 182, 1, 80, 172]
abbrev dktX1_why_2 : List UInt8 := dkwX1_why_2 ++ []
def dkwX1_why_1 : List UInt8 := [54, 4, 28, 154, 0, 8, 21, 4, 167, 0, 25, 28, 4, 160, 0, 13, 42, 45, 21, 4, 182, 1, 76]
abbrev dktX1_why_1 : List UInt8 := dkwX1_why_1 ++ dktX1_why_2
def dkwX1_why_0 : List UInt8 := [42, 27, 182, 0, 249, 78, 28, 133, 9, 20, 1, 71, 184, 0, 91, 184, 0, 206, 42, 45, 182, 1, 73]
abbrev dktX1_why_0 : List UInt8 := dkwX1_why_0 ++ dktX1_why_1
theorem dksX1_why_0 : cX1_why.data.toList.drop 0 = dktX1_why_0 := by decide +kernel
theorem dksX1_why_1 : cX1_why.data.toList.drop 23 = dktX1_why_1 := dk_seg dksX1_why_0 23 rfl rfl
theorem dksX1_why_2 : cX1_why.data.toList.drop 46 = dktX1_why_2 := dk_seg dksX1_why_1 23 rfl rfl
theorem dX1_why_0 : decode cX1_why 0 = .ok (.aload_n 0, 1) := dk_42 (dk_at dksX1_why_0 0 rfl rfl)
theorem dX1_why_1 : decode cX1_why 1 = .ok (.iload_n 1, 1) := dk_27 (dk_at dksX1_why_0 1 rfl rfl)
theorem dX1_why_2 : decode cX1_why 2 = .ok (.invokevirtual 249, 3) := dk_182 0 249 (dk_at dksX1_why_0 2 rfl rfl)
theorem dX1_why_5 : decode cX1_why 5 = .ok (.astore_n 3, 1) := dk_78 (dk_at dksX1_why_0 5 rfl rfl)
theorem dX1_why_6 : decode cX1_why 6 = .ok (.iload_n 2, 1) := dk_28 (dk_at dksX1_why_0 6 rfl rfl)
theorem dX1_why_7 : decode cX1_why 7 = .ok (.i2l, 1) := dk_133 (dk_at dksX1_why_0 7 rfl rfl)
theorem dX1_why_8 : decode cX1_why 8 = .ok (.lconst 0, 1) := dk_9 (dk_at dksX1_why_0 8 rfl rfl)
theorem dX1_why_9 : decode cX1_why 9 = .ok (.ldc2_w 327, 3) := dk_20 1 71 (dk_at dksX1_why_0 9 rfl rfl)
theorem dX1_why_12 : decode cX1_why 12 = .ok (.invokestatic 91, 3) := dk_184 0 91 (dk_at dksX1_why_0 12 rfl rfl)
theorem dX1_why_15 : decode cX1_why 15 = .ok (.invokestatic 206, 3) := dk_184 0 206 (dk_at dksX1_why_0 15 rfl rfl)
theorem dX1_why_18 : decode cX1_why 18 = .ok (.aload_n 0, 1) := dk_42 (dk_at dksX1_why_0 18 rfl rfl)
theorem dX1_why_19 : decode cX1_why 19 = .ok (.aload_n 3, 1) := dk_45 (dk_at dksX1_why_0 19 rfl rfl)
theorem dX1_why_20 : decode cX1_why 20 = .ok (.invokevirtual 329, 3) := dk_182 1 73 (dk_at dksX1_why_0 20 rfl rfl)
theorem dX1_why_23 : decode cX1_why 23 = .ok (.istore 4, 2) := dk_54 4 (dk_at dksX1_why_1 0 rfl rfl)
theorem dX1_why_25 : decode cX1_why 25 = .ok (.iload_n 2, 1) := dk_28 (dk_at dksX1_why_1 2 rfl rfl)
theorem dX1_why_26 : decode cX1_why 26 = .ok (.ifCond .ne 8, 3) := dk_154 0 8 (dk_at dksX1_why_1 3 rfl rfl)
theorem dX1_why_29 : decode cX1_why 29 = .ok (.iload 4, 2) := dk_21 4 (dk_at dksX1_why_1 6 rfl rfl)
theorem dX1_why_31 : decode cX1_why 31 = .ok (.goto 25, 3) := dk_167 0 25 (dk_at dksX1_why_1 8 rfl rfl)
theorem dX1_why_34 : decode cX1_why 34 = .ok (.iload_n 2, 1) := dk_28 (dk_at dksX1_why_1 11 rfl rfl)
theorem dX1_why_35 : decode cX1_why 35 = .ok (.iconst 1, 1) := dk_4 (dk_at dksX1_why_1 12 rfl rfl)
theorem dX1_why_36 : decode cX1_why 36 = .ok (.if_icmp .ne 13, 3) := dk_160 0 13 (dk_at dksX1_why_1 13 rfl rfl)
theorem dX1_why_39 : decode cX1_why 39 = .ok (.aload_n 0, 1) := dk_42 (dk_at dksX1_why_1 16 rfl rfl)
theorem dX1_why_40 : decode cX1_why 40 = .ok (.aload_n 3, 1) := dk_45 (dk_at dksX1_why_1 17 rfl rfl)
theorem dX1_why_41 : decode cX1_why 41 = .ok (.iload 4, 2) := dk_21 4 (dk_at dksX1_why_1 18 rfl rfl)
theorem dX1_why_43 : decode cX1_why 43 = .ok (.invokevirtual 332, 3) := dk_182 1 76 (dk_at dksX1_why_1 20 rfl rfl)
theorem dX1_why_46 : decode cX1_why 46 = .ok (.goto 10, 3) := dk_167 0 10 (dk_at dksX1_why_2 0 rfl rfl)
theorem dX1_why_49 : decode cX1_why 49 = .ok (.aload_n 0, 1) := dk_42 (dk_at dksX1_why_2 3 rfl rfl)
theorem dX1_why_50 : decode cX1_why 50 = .ok (.aload_n 3, 1) := dk_45 (dk_at dksX1_why_2 4 rfl rfl)
theorem dX1_why_51 : decode cX1_why 51 = .ok (.iload 4, 2) := dk_21 4 (dk_at dksX1_why_2 5 rfl rfl)
theorem dX1_why_53 : decode cX1_why 53 = .ok (.invokevirtual 336, 3) := dk_182 1 80 (dk_at dksX1_why_2 7 rfl rfl)
theorem dX1_why_56 : decode cX1_why 56 = .ok (.ireturn, 1) := dk_172 (dk_at dksX1_why_2 10 rfl rfl)
abbrev cX1_reason : ByteArray := prog_1_method_38_code
def yX1_reason : MethodName := ⟨RX1, "reason", "(LSortingLoop$Parcel;)I"⟩
def dkwX1_reason_4 : List UInt8 := [167, 0, 5, 16, 7, 172]
abbrev dktX1_reason_4 : List UInt8 := dkwX1_reason_4 ++ []
def dkwX1_reason_3 : List UInt8 := [182, 0, 174, 42, 180, 0, 50, 43, 180, 0, 252, 182, 0, 217, 180, 1, 22, 164, 0, 8, 16, 6]
abbrev dktX1_reason_3 : List UInt8 := dkwX1_reason_3 ++ dktX1_reason_4
def dkwX1_reason_2 : List UInt8 := [180, 0, 50, 43, 180, 0, 252, 182, 0, 217, 182, 1, 63, 154, 0, 5, 8, 172, 42, 180, 0, 50, 43]
abbrev dktX1_reason_2 : List UInt8 := dkwX1_reason_2 ++ dktX1_reason_3
def dkwX1_reason_1 : List UInt8 := [154, 0, 5, 5, 172, 43, 180, 0, 255, 158, 0, 5, 6, 172, 43, 182, 0, 167, 154, 0, 5, 7, 172, 42]
abbrev dktX1_reason_1 : List UInt8 := dkwX1_reason_1 ++ dktX1_reason_2
def dkwX1_reason_0 : List UInt8 := [43, 182, 1, 60, 153, 0, 5, 3, 172, 43, 180, 1, 5, 6, 160, 0, 5, 4, 172, 43, 182, 0, 161]
abbrev dktX1_reason_0 : List UInt8 := dkwX1_reason_0 ++ dktX1_reason_1
theorem dksX1_reason_0 : cX1_reason.data.toList.drop 0 = dktX1_reason_0 := by decide +kernel
theorem dksX1_reason_1 : cX1_reason.data.toList.drop 23 = dktX1_reason_1 := dk_seg dksX1_reason_0 23 rfl rfl
theorem dksX1_reason_2 : cX1_reason.data.toList.drop 47 = dktX1_reason_2 := dk_seg dksX1_reason_1 24 rfl rfl
theorem dksX1_reason_3 : cX1_reason.data.toList.drop 70 = dktX1_reason_3 := dk_seg dksX1_reason_2 23 rfl rfl
theorem dksX1_reason_4 : cX1_reason.data.toList.drop 92 = dktX1_reason_4 := dk_seg dksX1_reason_3 22 rfl rfl
theorem dX1_reason_0 : decode cX1_reason 0 = .ok (.aload_n 1, 1) := dk_43 (dk_at dksX1_reason_0 0 rfl rfl)
theorem dX1_reason_1 : decode cX1_reason 1 = .ok (.invokevirtual 316, 3) := dk_182 1 60 (dk_at dksX1_reason_0 1 rfl rfl)
theorem dX1_reason_4 : decode cX1_reason 4 = .ok (.ifCond .eq 5, 3) := dk_153 0 5 (dk_at dksX1_reason_0 4 rfl rfl)
theorem dX1_reason_7 : decode cX1_reason 7 = .ok (.iconst 0, 1) := dk_3 (dk_at dksX1_reason_0 7 rfl rfl)
theorem dX1_reason_8 : decode cX1_reason 8 = .ok (.ireturn, 1) := dk_172 (dk_at dksX1_reason_0 8 rfl rfl)
theorem dX1_reason_9 : decode cX1_reason 9 = .ok (.aload_n 1, 1) := dk_43 (dk_at dksX1_reason_0 9 rfl rfl)
theorem dX1_reason_10 : decode cX1_reason 10 = .ok (.getfield 261, 3) := dk_180 1 5 (dk_at dksX1_reason_0 10 rfl rfl)
theorem dX1_reason_13 : decode cX1_reason 13 = .ok (.iconst 3, 1) := dk_6 (dk_at dksX1_reason_0 13 rfl rfl)
theorem dX1_reason_14 : decode cX1_reason 14 = .ok (.if_icmp .ne 5, 3) := dk_160 0 5 (dk_at dksX1_reason_0 14 rfl rfl)
theorem dX1_reason_17 : decode cX1_reason 17 = .ok (.iconst 1, 1) := dk_4 (dk_at dksX1_reason_0 17 rfl rfl)
theorem dX1_reason_18 : decode cX1_reason 18 = .ok (.ireturn, 1) := dk_172 (dk_at dksX1_reason_0 18 rfl rfl)
theorem dX1_reason_19 : decode cX1_reason 19 = .ok (.aload_n 1, 1) := dk_43 (dk_at dksX1_reason_0 19 rfl rfl)
theorem dX1_reason_20 : decode cX1_reason 20 = .ok (.invokevirtual 161, 3) := dk_182 0 161 (dk_at dksX1_reason_0 20 rfl rfl)
theorem dX1_reason_23 : decode cX1_reason 23 = .ok (.ifCond .ne 5, 3) := dk_154 0 5 (dk_at dksX1_reason_1 0 rfl rfl)
theorem dX1_reason_26 : decode cX1_reason 26 = .ok (.iconst 2, 1) := dk_5 (dk_at dksX1_reason_1 3 rfl rfl)
theorem dX1_reason_27 : decode cX1_reason 27 = .ok (.ireturn, 1) := dk_172 (dk_at dksX1_reason_1 4 rfl rfl)
theorem dX1_reason_28 : decode cX1_reason 28 = .ok (.aload_n 1, 1) := dk_43 (dk_at dksX1_reason_1 5 rfl rfl)
theorem dX1_reason_29 : decode cX1_reason 29 = .ok (.getfield 255, 3) := dk_180 0 255 (dk_at dksX1_reason_1 6 rfl rfl)
theorem dX1_reason_32 : decode cX1_reason 32 = .ok (.ifCond .le 5, 3) := dk_158 0 5 (dk_at dksX1_reason_1 9 rfl rfl)
theorem dX1_reason_35 : decode cX1_reason 35 = .ok (.iconst 3, 1) := dk_6 (dk_at dksX1_reason_1 12 rfl rfl)
theorem dX1_reason_36 : decode cX1_reason 36 = .ok (.ireturn, 1) := dk_172 (dk_at dksX1_reason_1 13 rfl rfl)
theorem dX1_reason_37 : decode cX1_reason 37 = .ok (.aload_n 1, 1) := dk_43 (dk_at dksX1_reason_1 14 rfl rfl)
theorem dX1_reason_38 : decode cX1_reason 38 = .ok (.invokevirtual 167, 3) := dk_182 0 167 (dk_at dksX1_reason_1 15 rfl rfl)
theorem dX1_reason_41 : decode cX1_reason 41 = .ok (.ifCond .ne 5, 3) := dk_154 0 5 (dk_at dksX1_reason_1 18 rfl rfl)
theorem dX1_reason_44 : decode cX1_reason 44 = .ok (.iconst 4, 1) := dk_7 (dk_at dksX1_reason_1 21 rfl rfl)
theorem dX1_reason_45 : decode cX1_reason 45 = .ok (.ireturn, 1) := dk_172 (dk_at dksX1_reason_1 22 rfl rfl)
theorem dX1_reason_46 : decode cX1_reason 46 = .ok (.aload_n 0, 1) := dk_42 (dk_at dksX1_reason_1 23 rfl rfl)
theorem dX1_reason_47 : decode cX1_reason 47 = .ok (.getfield 50, 3) := dk_180 0 50 (dk_at dksX1_reason_2 0 rfl rfl)
theorem dX1_reason_50 : decode cX1_reason 50 = .ok (.aload_n 1, 1) := dk_43 (dk_at dksX1_reason_2 3 rfl rfl)
theorem dX1_reason_51 : decode cX1_reason 51 = .ok (.getfield 252, 3) := dk_180 0 252 (dk_at dksX1_reason_2 4 rfl rfl)
theorem dX1_reason_54 : decode cX1_reason 54 = .ok (.invokevirtual 217, 3) := dk_182 0 217 (dk_at dksX1_reason_2 7 rfl rfl)
theorem dX1_reason_57 : decode cX1_reason 57 = .ok (.invokevirtual 319, 3) := dk_182 1 63 (dk_at dksX1_reason_2 10 rfl rfl)
theorem dX1_reason_60 : decode cX1_reason 60 = .ok (.ifCond .ne 5, 3) := dk_154 0 5 (dk_at dksX1_reason_2 13 rfl rfl)
theorem dX1_reason_63 : decode cX1_reason 63 = .ok (.iconst 5, 1) := dk_8 (dk_at dksX1_reason_2 16 rfl rfl)
theorem dX1_reason_64 : decode cX1_reason 64 = .ok (.ireturn, 1) := dk_172 (dk_at dksX1_reason_2 17 rfl rfl)
theorem dX1_reason_65 : decode cX1_reason 65 = .ok (.aload_n 0, 1) := dk_42 (dk_at dksX1_reason_2 18 rfl rfl)
theorem dX1_reason_66 : decode cX1_reason 66 = .ok (.getfield 50, 3) := dk_180 0 50 (dk_at dksX1_reason_2 19 rfl rfl)
theorem dX1_reason_69 : decode cX1_reason 69 = .ok (.aload_n 1, 1) := dk_43 (dk_at dksX1_reason_2 22 rfl rfl)
theorem dX1_reason_70 : decode cX1_reason 70 = .ok (.invokevirtual 174, 3) := dk_182 0 174 (dk_at dksX1_reason_3 0 rfl rfl)
theorem dX1_reason_73 : decode cX1_reason 73 = .ok (.aload_n 0, 1) := dk_42 (dk_at dksX1_reason_3 3 rfl rfl)
theorem dX1_reason_74 : decode cX1_reason 74 = .ok (.getfield 50, 3) := dk_180 0 50 (dk_at dksX1_reason_3 4 rfl rfl)
theorem dX1_reason_77 : decode cX1_reason 77 = .ok (.aload_n 1, 1) := dk_43 (dk_at dksX1_reason_3 7 rfl rfl)
theorem dX1_reason_78 : decode cX1_reason 78 = .ok (.getfield 252, 3) := dk_180 0 252 (dk_at dksX1_reason_3 8 rfl rfl)
theorem dX1_reason_81 : decode cX1_reason 81 = .ok (.invokevirtual 217, 3) := dk_182 0 217 (dk_at dksX1_reason_3 11 rfl rfl)
theorem dX1_reason_84 : decode cX1_reason 84 = .ok (.getfield 278, 3) := dk_180 1 22 (dk_at dksX1_reason_3 14 rfl rfl)
theorem dX1_reason_87 : decode cX1_reason 87 = .ok (.if_icmp .le 8, 3) := dk_164 0 8 (dk_at dksX1_reason_3 17 rfl rfl)
theorem dX1_reason_90 : decode cX1_reason 90 = .ok (.bipush 6, 2) := dk_16 6 (dk_at dksX1_reason_3 20 rfl rfl)
theorem dX1_reason_92 : decode cX1_reason 92 = .ok (.goto 5, 3) := dk_167 0 5 (dk_at dksX1_reason_4 0 rfl rfl)
theorem dX1_reason_95 : decode cX1_reason 95 = .ok (.bipush 7, 2) := dk_16 7 (dk_at dksX1_reason_4 3 rfl rfl)
theorem dX1_reason_97 : decode cX1_reason 97 = .ok (.ireturn, 1) := dk_172 (dk_at dksX1_reason_4 5 rfl rfl)
abbrev cX1_cause : ByteArray := prog_1_method_39_code
def yX1_cause : MethodName := ⟨RX1, "cause", "(LSortingLoop$Parcel;I)I"⟩
def dkwX1_cause_5 : List UInt8 := [167, 0, 16, 17, 4, 76, 42, 43, 182, 1, 57, 96, 167, 0, 4, 3, 172]
abbrev dktX1_cause_5 : List UInt8 := dkwX1_cause_5 ++ []
def dkwX1_cause_4 : List UInt8 := [17, 2, 188, 43, 180, 0, 252, 96, 167, 0, 31, 17, 3, 132, 42, 180, 0, 50, 43, 182, 0, 174, 96]
abbrev dktX1_cause_4 : List UInt8 := dkwX1_cause_4 ++ dktX1_cause_5
def dkwX1_cause_3 : List UInt8 := [43, 180, 0, 255, 96, 167, 0, 58, 17, 2, 88, 3, 42, 43, 182, 1, 54, 184, 1, 66, 96, 167, 0, 42]
abbrev dktX1_cause_3 : List UInt8 := dkwX1_cause_3 ++ dktX1_cause_4
def dkwX1_cause_2 : List UInt8 := [16, 100, 43, 180, 1, 2, 96, 167, 0, 80, 17, 0, 200, 43, 180, 1, 11, 96, 167, 0, 69, 17, 1, 144]
abbrev dktX1_cause_2 : List UInt8 := dkwX1_cause_2 ++ dktX1_cause_3
def dkwX1_cause_1 : List UInt8 := [170, 0, 0, 0, 0, 0, 129, 0, 0, 0, 1, 0, 0, 0, 7, 0, 0, 0, 43, 0, 0, 0, 53, 0, 0, 0, 64, 0, 0, 0, 75, 0, 0, 0, 91, 0, 0, 0, 102, 0, 0, 0, 117]
abbrev dktX1_cause_1 : List UInt8 := dkwX1_cause_1 ++ dktX1_cause_2
def dkwX1_cause_0 : List UInt8 := [28]
abbrev dktX1_cause_0 : List UInt8 := dkwX1_cause_0 ++ dktX1_cause_1
theorem dksX1_cause_0 : cX1_cause.data.toList.drop 0 = dktX1_cause_0 := by decide +kernel
theorem dksX1_cause_1 : cX1_cause.data.toList.drop 1 = dktX1_cause_1 := dk_seg dksX1_cause_0 1 rfl rfl
theorem dksX1_cause_2 : cX1_cause.data.toList.drop 44 = dktX1_cause_2 := dk_seg dksX1_cause_1 43 rfl rfl
theorem dksX1_cause_3 : cX1_cause.data.toList.drop 68 = dktX1_cause_3 := dk_seg dksX1_cause_2 24 rfl rfl
theorem dksX1_cause_4 : cX1_cause.data.toList.drop 92 = dktX1_cause_4 := dk_seg dksX1_cause_3 24 rfl rfl
theorem dksX1_cause_5 : cX1_cause.data.toList.drop 115 = dktX1_cause_5 := dk_seg dksX1_cause_4 23 rfl rfl
theorem dX1_cause_0 : decode cX1_cause 0 = .ok (.iload_n 2, 1) := dk_28 (dk_at dksX1_cause_0 0 rfl rfl)
theorem dX1_cause_1 : decode cX1_cause 1 = .ok (.tableswitch 129 1 7 #[43, 53, 64, 75, 91, 102, 117], 43) := by decide +kernel
theorem dX1_cause_44 : decode cX1_cause 44 = .ok (.bipush 100, 2) := dk_16 100 (dk_at dksX1_cause_2 0 rfl rfl)
theorem dX1_cause_46 : decode cX1_cause 46 = .ok (.aload_n 1, 1) := dk_43 (dk_at dksX1_cause_2 2 rfl rfl)
theorem dX1_cause_47 : decode cX1_cause 47 = .ok (.getfield 258, 3) := dk_180 1 2 (dk_at dksX1_cause_2 3 rfl rfl)
theorem dX1_cause_50 : decode cX1_cause 50 = .ok (.iadd, 1) := dk_96 (dk_at dksX1_cause_2 6 rfl rfl)
theorem dX1_cause_51 : decode cX1_cause 51 = .ok (.goto 80, 3) := dk_167 0 80 (dk_at dksX1_cause_2 7 rfl rfl)
theorem dX1_cause_54 : decode cX1_cause 54 = .ok (.sipush 200, 3) := dk_17 0 200 (dk_at dksX1_cause_2 10 rfl rfl)
theorem dX1_cause_57 : decode cX1_cause 57 = .ok (.aload_n 1, 1) := dk_43 (dk_at dksX1_cause_2 13 rfl rfl)
theorem dX1_cause_58 : decode cX1_cause 58 = .ok (.getfield 267, 3) := dk_180 1 11 (dk_at dksX1_cause_2 14 rfl rfl)
theorem dX1_cause_61 : decode cX1_cause 61 = .ok (.iadd, 1) := dk_96 (dk_at dksX1_cause_2 17 rfl rfl)
theorem dX1_cause_62 : decode cX1_cause 62 = .ok (.goto 69, 3) := dk_167 0 69 (dk_at dksX1_cause_2 18 rfl rfl)
theorem dX1_cause_65 : decode cX1_cause 65 = .ok (.sipush 400, 3) := dk_17 1 144 (dk_at dksX1_cause_2 21 rfl rfl)
theorem dX1_cause_68 : decode cX1_cause 68 = .ok (.aload_n 1, 1) := dk_43 (dk_at dksX1_cause_3 0 rfl rfl)
theorem dX1_cause_69 : decode cX1_cause 69 = .ok (.getfield 255, 3) := dk_180 0 255 (dk_at dksX1_cause_3 1 rfl rfl)
theorem dX1_cause_72 : decode cX1_cause 72 = .ok (.iadd, 1) := dk_96 (dk_at dksX1_cause_3 4 rfl rfl)
theorem dX1_cause_73 : decode cX1_cause 73 = .ok (.goto 58, 3) := dk_167 0 58 (dk_at dksX1_cause_3 5 rfl rfl)
theorem dX1_cause_76 : decode cX1_cause 76 = .ok (.sipush 600, 3) := dk_17 2 88 (dk_at dksX1_cause_3 8 rfl rfl)
theorem dX1_cause_79 : decode cX1_cause 79 = .ok (.iconst 0, 1) := dk_3 (dk_at dksX1_cause_3 11 rfl rfl)
theorem dX1_cause_80 : decode cX1_cause 80 = .ok (.aload_n 0, 1) := dk_42 (dk_at dksX1_cause_3 12 rfl rfl)
theorem dX1_cause_81 : decode cX1_cause 81 = .ok (.aload_n 1, 1) := dk_43 (dk_at dksX1_cause_3 13 rfl rfl)
theorem dX1_cause_82 : decode cX1_cause 82 = .ok (.invokevirtual 310, 3) := dk_182 1 54 (dk_at dksX1_cause_3 14 rfl rfl)
theorem dX1_cause_85 : decode cX1_cause 85 = .ok (.invokestatic 322, 3) := dk_184 1 66 (dk_at dksX1_cause_3 17 rfl rfl)
theorem dX1_cause_88 : decode cX1_cause 88 = .ok (.iadd, 1) := dk_96 (dk_at dksX1_cause_3 20 rfl rfl)
theorem dX1_cause_89 : decode cX1_cause 89 = .ok (.goto 42, 3) := dk_167 0 42 (dk_at dksX1_cause_3 21 rfl rfl)
theorem dX1_cause_92 : decode cX1_cause 92 = .ok (.sipush 700, 3) := dk_17 2 188 (dk_at dksX1_cause_4 0 rfl rfl)
theorem dX1_cause_95 : decode cX1_cause 95 = .ok (.aload_n 1, 1) := dk_43 (dk_at dksX1_cause_4 3 rfl rfl)
theorem dX1_cause_96 : decode cX1_cause 96 = .ok (.getfield 252, 3) := dk_180 0 252 (dk_at dksX1_cause_4 4 rfl rfl)
theorem dX1_cause_99 : decode cX1_cause 99 = .ok (.iadd, 1) := dk_96 (dk_at dksX1_cause_4 7 rfl rfl)
theorem dX1_cause_100 : decode cX1_cause 100 = .ok (.goto 31, 3) := dk_167 0 31 (dk_at dksX1_cause_4 8 rfl rfl)
theorem dX1_cause_103 : decode cX1_cause 103 = .ok (.sipush 900, 3) := dk_17 3 132 (dk_at dksX1_cause_4 11 rfl rfl)
theorem dX1_cause_106 : decode cX1_cause 106 = .ok (.aload_n 0, 1) := dk_42 (dk_at dksX1_cause_4 14 rfl rfl)
theorem dX1_cause_107 : decode cX1_cause 107 = .ok (.getfield 50, 3) := dk_180 0 50 (dk_at dksX1_cause_4 15 rfl rfl)
theorem dX1_cause_110 : decode cX1_cause 110 = .ok (.aload_n 1, 1) := dk_43 (dk_at dksX1_cause_4 18 rfl rfl)
theorem dX1_cause_111 : decode cX1_cause 111 = .ok (.invokevirtual 174, 3) := dk_182 0 174 (dk_at dksX1_cause_4 19 rfl rfl)
theorem dX1_cause_114 : decode cX1_cause 114 = .ok (.iadd, 1) := dk_96 (dk_at dksX1_cause_4 22 rfl rfl)
theorem dX1_cause_115 : decode cX1_cause 115 = .ok (.goto 16, 3) := dk_167 0 16 (dk_at dksX1_cause_5 0 rfl rfl)
theorem dX1_cause_118 : decode cX1_cause 118 = .ok (.sipush 1100, 3) := dk_17 4 76 (dk_at dksX1_cause_5 3 rfl rfl)
theorem dX1_cause_121 : decode cX1_cause 121 = .ok (.aload_n 0, 1) := dk_42 (dk_at dksX1_cause_5 6 rfl rfl)
theorem dX1_cause_122 : decode cX1_cause 122 = .ok (.aload_n 1, 1) := dk_43 (dk_at dksX1_cause_5 7 rfl rfl)
theorem dX1_cause_123 : decode cX1_cause 123 = .ok (.invokevirtual 313, 3) := dk_182 1 57 (dk_at dksX1_cause_5 8 rfl rfl)
theorem dX1_cause_126 : decode cX1_cause 126 = .ok (.iadd, 1) := dk_96 (dk_at dksX1_cause_5 11 rfl rfl)
theorem dX1_cause_127 : decode cX1_cause 127 = .ok (.goto 4, 3) := dk_167 0 4 (dk_at dksX1_cause_5 12 rfl rfl)
theorem dX1_cause_130 : decode cX1_cause 130 = .ok (.iconst 0, 1) := dk_3 (dk_at dksX1_cause_5 15 rfl rfl)
theorem dX1_cause_131 : decode cX1_cause 131 = .ok (.ireturn, 1) := dk_172 (dk_at dksX1_cause_5 16 rfl rfl)
abbrev cX1_deeper : ByteArray := prog_1_method_40_code
def yX1_deeper : MethodName := ⟨RX1, "deeper", "(LSortingLoop$Parcel;I)I"⟩
def dkwX1_deeper_5 : List UInt8 := [180, 1, 22, 96, 167, 0, 4, 3, 172]
abbrev dktX1_deeper_5 : List UInt8 := dkwX1_deeper_5 ++ []
def dkwX1_deeper_4 : List UInt8 := [185, 0, 123, 1, 0, 96, 167, 0, 25, 17, 3, 232, 42, 180, 0, 50, 43, 180, 0, 252, 182, 0, 217]
abbrev dktX1_deeper_4 : List UInt8 := dkwX1_deeper_4 ++ dktX1_deeper_5
def dkwX1_deeper_3 : List UInt8 := [167, 0, 51, 17, 3, 32, 42, 180, 0, 50, 43, 180, 0, 252, 182, 0, 217, 180, 1, 35]
abbrev dktX1_deeper_3 : List UInt8 := dkwX1_deeper_3 ++ dktX1_deeper_4
def dkwX1_deeper_2 : List UInt8 := [17, 1, 44, 43, 180, 0, 252, 96, 167, 0, 67, 17, 1, 244, 3, 42, 43, 182, 1, 54, 184, 1, 66, 96]
abbrev dktX1_deeper_2 : List UInt8 := dkwX1_deeper_2 ++ dktX1_deeper_3
def dkwX1_deeper_1 : List UInt8 := [170, 0, 0, 0, 0, 0, 109, 0, 0, 0, 2, 0, 0, 0, 6, 0, 0, 0, 35, 0, 0, 0, 46, 0, 0, 0, 109, 0, 0, 0, 62, 0, 0, 0, 88]
abbrev dktX1_deeper_1 : List UInt8 := dkwX1_deeper_1 ++ dktX1_deeper_2
def dkwX1_deeper_0 : List UInt8 := [28]
abbrev dktX1_deeper_0 : List UInt8 := dkwX1_deeper_0 ++ dktX1_deeper_1
theorem dksX1_deeper_0 : cX1_deeper.data.toList.drop 0 = dktX1_deeper_0 := by decide +kernel
theorem dksX1_deeper_1 : cX1_deeper.data.toList.drop 1 = dktX1_deeper_1 := dk_seg dksX1_deeper_0 1 rfl rfl
theorem dksX1_deeper_2 : cX1_deeper.data.toList.drop 36 = dktX1_deeper_2 := dk_seg dksX1_deeper_1 35 rfl rfl
theorem dksX1_deeper_3 : cX1_deeper.data.toList.drop 60 = dktX1_deeper_3 := dk_seg dksX1_deeper_2 24 rfl rfl
theorem dksX1_deeper_4 : cX1_deeper.data.toList.drop 80 = dktX1_deeper_4 := dk_seg dksX1_deeper_3 20 rfl rfl
theorem dksX1_deeper_5 : cX1_deeper.data.toList.drop 103 = dktX1_deeper_5 := dk_seg dksX1_deeper_4 23 rfl rfl
theorem dX1_deeper_0 : decode cX1_deeper 0 = .ok (.iload_n 2, 1) := dk_28 (dk_at dksX1_deeper_0 0 rfl rfl)
theorem dX1_deeper_1 : decode cX1_deeper 1 = .ok (.tableswitch 109 2 6 #[35, 46, 109, 62, 88], 35) := by decide +kernel
theorem dX1_deeper_36 : decode cX1_deeper 36 = .ok (.sipush 300, 3) := dk_17 1 44 (dk_at dksX1_deeper_2 0 rfl rfl)
theorem dX1_deeper_39 : decode cX1_deeper 39 = .ok (.aload_n 1, 1) := dk_43 (dk_at dksX1_deeper_2 3 rfl rfl)
theorem dX1_deeper_40 : decode cX1_deeper 40 = .ok (.getfield 252, 3) := dk_180 0 252 (dk_at dksX1_deeper_2 4 rfl rfl)
theorem dX1_deeper_43 : decode cX1_deeper 43 = .ok (.iadd, 1) := dk_96 (dk_at dksX1_deeper_2 7 rfl rfl)
theorem dX1_deeper_44 : decode cX1_deeper 44 = .ok (.goto 67, 3) := dk_167 0 67 (dk_at dksX1_deeper_2 8 rfl rfl)
theorem dX1_deeper_47 : decode cX1_deeper 47 = .ok (.sipush 500, 3) := dk_17 1 244 (dk_at dksX1_deeper_2 11 rfl rfl)
theorem dX1_deeper_50 : decode cX1_deeper 50 = .ok (.iconst 0, 1) := dk_3 (dk_at dksX1_deeper_2 14 rfl rfl)
theorem dX1_deeper_51 : decode cX1_deeper 51 = .ok (.aload_n 0, 1) := dk_42 (dk_at dksX1_deeper_2 15 rfl rfl)
theorem dX1_deeper_52 : decode cX1_deeper 52 = .ok (.aload_n 1, 1) := dk_43 (dk_at dksX1_deeper_2 16 rfl rfl)
theorem dX1_deeper_53 : decode cX1_deeper 53 = .ok (.invokevirtual 310, 3) := dk_182 1 54 (dk_at dksX1_deeper_2 17 rfl rfl)
theorem dX1_deeper_56 : decode cX1_deeper 56 = .ok (.invokestatic 322, 3) := dk_184 1 66 (dk_at dksX1_deeper_2 20 rfl rfl)
theorem dX1_deeper_59 : decode cX1_deeper 59 = .ok (.iadd, 1) := dk_96 (dk_at dksX1_deeper_2 23 rfl rfl)
theorem dX1_deeper_60 : decode cX1_deeper 60 = .ok (.goto 51, 3) := dk_167 0 51 (dk_at dksX1_deeper_3 0 rfl rfl)
theorem dX1_deeper_63 : decode cX1_deeper 63 = .ok (.sipush 800, 3) := dk_17 3 32 (dk_at dksX1_deeper_3 3 rfl rfl)
theorem dX1_deeper_66 : decode cX1_deeper 66 = .ok (.aload_n 0, 1) := dk_42 (dk_at dksX1_deeper_3 6 rfl rfl)
theorem dX1_deeper_67 : decode cX1_deeper 67 = .ok (.getfield 50, 3) := dk_180 0 50 (dk_at dksX1_deeper_3 7 rfl rfl)
theorem dX1_deeper_70 : decode cX1_deeper 70 = .ok (.aload_n 1, 1) := dk_43 (dk_at dksX1_deeper_3 10 rfl rfl)
theorem dX1_deeper_71 : decode cX1_deeper 71 = .ok (.getfield 252, 3) := dk_180 0 252 (dk_at dksX1_deeper_3 11 rfl rfl)
theorem dX1_deeper_74 : decode cX1_deeper 74 = .ok (.invokevirtual 217, 3) := dk_182 0 217 (dk_at dksX1_deeper_3 14 rfl rfl)
theorem dX1_deeper_77 : decode cX1_deeper 77 = .ok (.getfield 291, 3) := dk_180 1 35 (dk_at dksX1_deeper_3 17 rfl rfl)
theorem dX1_deeper_80 : decode cX1_deeper 80 = .ok (.invokeinterface 123 1, 5) := by decide +kernel
theorem dX1_deeper_85 : decode cX1_deeper 85 = .ok (.iadd, 1) := dk_96 (dk_at dksX1_deeper_4 5 rfl rfl)
theorem dX1_deeper_86 : decode cX1_deeper 86 = .ok (.goto 25, 3) := dk_167 0 25 (dk_at dksX1_deeper_4 6 rfl rfl)
theorem dX1_deeper_89 : decode cX1_deeper 89 = .ok (.sipush 1000, 3) := dk_17 3 232 (dk_at dksX1_deeper_4 9 rfl rfl)
theorem dX1_deeper_92 : decode cX1_deeper 92 = .ok (.aload_n 0, 1) := dk_42 (dk_at dksX1_deeper_4 12 rfl rfl)
theorem dX1_deeper_93 : decode cX1_deeper 93 = .ok (.getfield 50, 3) := dk_180 0 50 (dk_at dksX1_deeper_4 13 rfl rfl)
theorem dX1_deeper_96 : decode cX1_deeper 96 = .ok (.aload_n 1, 1) := dk_43 (dk_at dksX1_deeper_4 16 rfl rfl)
theorem dX1_deeper_97 : decode cX1_deeper 97 = .ok (.getfield 252, 3) := dk_180 0 252 (dk_at dksX1_deeper_4 17 rfl rfl)
theorem dX1_deeper_100 : decode cX1_deeper 100 = .ok (.invokevirtual 217, 3) := dk_182 0 217 (dk_at dksX1_deeper_4 20 rfl rfl)
theorem dX1_deeper_103 : decode cX1_deeper 103 = .ok (.getfield 278, 3) := dk_180 1 22 (dk_at dksX1_deeper_5 0 rfl rfl)
theorem dX1_deeper_106 : decode cX1_deeper 106 = .ok (.iadd, 1) := dk_96 (dk_at dksX1_deeper_5 3 rfl rfl)
theorem dX1_deeper_107 : decode cX1_deeper 107 = .ok (.goto 4, 3) := dk_167 0 4 (dk_at dksX1_deeper_5 4 rfl rfl)
theorem dX1_deeper_110 : decode cX1_deeper 110 = .ok (.iconst 0, 1) := dk_3 (dk_at dksX1_deeper_5 7 rfl rfl)
theorem dX1_deeper_111 : decode cX1_deeper 111 = .ok (.ireturn, 1) := dk_172 (dk_at dksX1_deeper_5 8 rfl rfl)
abbrev cX1_whyNoSlip : ByteArray := prog_1_method_43_code
def yX1_whyNoSlip : MethodName := ⟨RX1, "whyNoSlip", "(I)I"⟩
def dkwX1_whyNoSlip_0 : List UInt8 := [42, 180, 0, 50, 42, 27, 182, 0, 249, 182, 1, 86, 172]
abbrev dktX1_whyNoSlip_0 : List UInt8 := dkwX1_whyNoSlip_0 ++ []
theorem dksX1_whyNoSlip_0 : cX1_whyNoSlip.data.toList.drop 0 = dktX1_whyNoSlip_0 := by decide +kernel
theorem dX1_whyNoSlip_0 : decode cX1_whyNoSlip 0 = .ok (.aload_n 0, 1) := dk_42 (dk_at dksX1_whyNoSlip_0 0 rfl rfl)
theorem dX1_whyNoSlip_1 : decode cX1_whyNoSlip 1 = .ok (.getfield 50, 3) := dk_180 0 50 (dk_at dksX1_whyNoSlip_0 1 rfl rfl)
theorem dX1_whyNoSlip_4 : decode cX1_whyNoSlip 4 = .ok (.aload_n 0, 1) := dk_42 (dk_at dksX1_whyNoSlip_0 4 rfl rfl)
theorem dX1_whyNoSlip_5 : decode cX1_whyNoSlip 5 = .ok (.iload_n 1, 1) := dk_27 (dk_at dksX1_whyNoSlip_0 5 rfl rfl)
theorem dX1_whyNoSlip_6 : decode cX1_whyNoSlip 6 = .ok (.invokevirtual 249, 3) := dk_182 0 249 (dk_at dksX1_whyNoSlip_0 6 rfl rfl)
theorem dX1_whyNoSlip_9 : decode cX1_whyNoSlip 9 = .ok (.invokevirtual 342, 3) := dk_182 1 86 (dk_at dksX1_whyNoSlip_0 9 rfl rfl)
theorem dX1_whyNoSlip_12 : decode cX1_whyNoSlip 12 = .ok (.ireturn, 1) := dk_172 (dk_at dksX1_whyNoSlip_0 12 rfl rfl)
abbrev cX1_leavesIn : ByteArray := prog_1_method_46_code
def yX1_leavesIn : MethodName := ⟨RX1, "leavesIn", "(I)I"⟩
def dkwX1_leavesIn_2 : List UInt8 := [2, 172]
abbrev dktX1_leavesIn_2 : List UInt8 := dkwX1_leavesIn_2 ++ []
def dkwX1_leavesIn_1 : List UInt8 := [182, 0, 157, 182, 0, 161, 154, 0, 6, 21, 4, 172, 45, 182, 1, 98, 54, 5, 132, 4, 1, 167, 255, 225]
abbrev dktX1_leavesIn_1 : List UInt8 := dkwX1_leavesIn_1 ++ dktX1_leavesIn_2
def dkwX1_leavesIn_0 : List UInt8 := [42, 27, 182, 0, 249, 77, 42, 182, 1, 95, 78, 3, 54, 4, 21, 4, 17, 1, 244, 163, 0, 29, 45, 27]
abbrev dktX1_leavesIn_0 : List UInt8 := dkwX1_leavesIn_0 ++ dktX1_leavesIn_1
theorem dksX1_leavesIn_0 : cX1_leavesIn.data.toList.drop 0 = dktX1_leavesIn_0 := by decide +kernel
theorem dksX1_leavesIn_1 : cX1_leavesIn.data.toList.drop 24 = dktX1_leavesIn_1 := dk_seg dksX1_leavesIn_0 24 rfl rfl
theorem dksX1_leavesIn_2 : cX1_leavesIn.data.toList.drop 48 = dktX1_leavesIn_2 := dk_seg dksX1_leavesIn_1 24 rfl rfl
theorem dX1_leavesIn_0 : decode cX1_leavesIn 0 = .ok (.aload_n 0, 1) := dk_42 (dk_at dksX1_leavesIn_0 0 rfl rfl)
theorem dX1_leavesIn_1 : decode cX1_leavesIn 1 = .ok (.iload_n 1, 1) := dk_27 (dk_at dksX1_leavesIn_0 1 rfl rfl)
theorem dX1_leavesIn_2 : decode cX1_leavesIn 2 = .ok (.invokevirtual 249, 3) := dk_182 0 249 (dk_at dksX1_leavesIn_0 2 rfl rfl)
theorem dX1_leavesIn_5 : decode cX1_leavesIn 5 = .ok (.astore_n 2, 1) := dk_77 (dk_at dksX1_leavesIn_0 5 rfl rfl)
theorem dX1_leavesIn_6 : decode cX1_leavesIn 6 = .ok (.aload_n 0, 1) := dk_42 (dk_at dksX1_leavesIn_0 6 rfl rfl)
theorem dX1_leavesIn_7 : decode cX1_leavesIn 7 = .ok (.invokevirtual 351, 3) := dk_182 1 95 (dk_at dksX1_leavesIn_0 7 rfl rfl)
theorem dX1_leavesIn_10 : decode cX1_leavesIn 10 = .ok (.astore_n 3, 1) := dk_78 (dk_at dksX1_leavesIn_0 10 rfl rfl)
theorem dX1_leavesIn_11 : decode cX1_leavesIn 11 = .ok (.iconst 0, 1) := dk_3 (dk_at dksX1_leavesIn_0 11 rfl rfl)
theorem dX1_leavesIn_12 : decode cX1_leavesIn 12 = .ok (.istore 4, 2) := dk_54 4 (dk_at dksX1_leavesIn_0 12 rfl rfl)
theorem dX1_leavesIn_14 : decode cX1_leavesIn 14 = .ok (.iload 4, 2) := dk_21 4 (dk_at dksX1_leavesIn_0 14 rfl rfl)
theorem dX1_leavesIn_16 : decode cX1_leavesIn 16 = .ok (.sipush 500, 3) := dk_17 1 244 (dk_at dksX1_leavesIn_0 16 rfl rfl)
theorem dX1_leavesIn_19 : decode cX1_leavesIn 19 = .ok (.if_icmp .gt 29, 3) := dk_163 0 29 (dk_at dksX1_leavesIn_0 19 rfl rfl)
theorem dX1_leavesIn_22 : decode cX1_leavesIn 22 = .ok (.aload_n 3, 1) := dk_45 (dk_at dksX1_leavesIn_0 22 rfl rfl)
theorem dX1_leavesIn_23 : decode cX1_leavesIn 23 = .ok (.iload_n 1, 1) := dk_27 (dk_at dksX1_leavesIn_0 23 rfl rfl)
theorem dX1_leavesIn_24 : decode cX1_leavesIn 24 = .ok (.invokevirtual 157, 3) := dk_182 0 157 (dk_at dksX1_leavesIn_1 0 rfl rfl)
theorem dX1_leavesIn_27 : decode cX1_leavesIn 27 = .ok (.invokevirtual 161, 3) := dk_182 0 161 (dk_at dksX1_leavesIn_1 3 rfl rfl)
theorem dX1_leavesIn_30 : decode cX1_leavesIn 30 = .ok (.ifCond .ne 6, 3) := dk_154 0 6 (dk_at dksX1_leavesIn_1 6 rfl rfl)
theorem dX1_leavesIn_33 : decode cX1_leavesIn 33 = .ok (.iload 4, 2) := dk_21 4 (dk_at dksX1_leavesIn_1 9 rfl rfl)
theorem dX1_leavesIn_35 : decode cX1_leavesIn 35 = .ok (.ireturn, 1) := dk_172 (dk_at dksX1_leavesIn_1 11 rfl rfl)
theorem dX1_leavesIn_36 : decode cX1_leavesIn 36 = .ok (.aload_n 3, 1) := dk_45 (dk_at dksX1_leavesIn_1 12 rfl rfl)
theorem dX1_leavesIn_37 : decode cX1_leavesIn 37 = .ok (.invokevirtual 354, 3) := dk_182 1 98 (dk_at dksX1_leavesIn_1 13 rfl rfl)
theorem dX1_leavesIn_40 : decode cX1_leavesIn 40 = .ok (.istore 5, 2) := dk_54 5 (dk_at dksX1_leavesIn_1 16 rfl rfl)
theorem dX1_leavesIn_42 : decode cX1_leavesIn 42 = .ok (.iinc 4 1, 3) := dk_132 4 1 (dk_at dksX1_leavesIn_1 18 rfl rfl)
theorem dX1_leavesIn_45 : decode cX1_leavesIn 45 = .ok (.goto (-31), 3) := dk_167 255 225 (dk_at dksX1_leavesIn_1 21 rfl rfl)
theorem dX1_leavesIn_48 : decode cX1_leavesIn 48 = .ok (.iconst (-1), 1) := dk_2 (dk_at dksX1_leavesIn_2 0 rfl rfl)
theorem dX1_leavesIn_49 : decode cX1_leavesIn 49 = .ok (.ireturn, 1) := dk_172 (dk_at dksX1_leavesIn_2 1 rfl rfl)
abbrev cX1_endsAs : ByteArray := prog_1_method_48_code
def yX1_endsAs : MethodName := ⟨RX1, "endsAs", "(II)I"⟩
def dkwX1_endsAs_1 : List UInt8 := [25, 4, 27, 182, 0, 157, 184, 1, 107, 172]
abbrev dktX1_endsAs_1 : List UInt8 := dkwX1_endsAs_1 ++ []
def dkwX1_endsAs_0 : List UInt8 := [42, 27, 182, 0, 249, 78, 28, 184, 1, 101, 42, 182, 1, 95, 58, 4, 25, 4, 28, 182, 1, 104, 54, 5]
abbrev dktX1_endsAs_0 : List UInt8 := dkwX1_endsAs_0 ++ dktX1_endsAs_1
theorem dksX1_endsAs_0 : cX1_endsAs.data.toList.drop 0 = dktX1_endsAs_0 := by decide +kernel
theorem dksX1_endsAs_1 : cX1_endsAs.data.toList.drop 24 = dktX1_endsAs_1 := dk_seg dksX1_endsAs_0 24 rfl rfl
theorem dX1_endsAs_0 : decode cX1_endsAs 0 = .ok (.aload_n 0, 1) := dk_42 (dk_at dksX1_endsAs_0 0 rfl rfl)
theorem dX1_endsAs_1 : decode cX1_endsAs 1 = .ok (.iload_n 1, 1) := dk_27 (dk_at dksX1_endsAs_0 1 rfl rfl)
theorem dX1_endsAs_2 : decode cX1_endsAs 2 = .ok (.invokevirtual 249, 3) := dk_182 0 249 (dk_at dksX1_endsAs_0 2 rfl rfl)
theorem dX1_endsAs_5 : decode cX1_endsAs 5 = .ok (.astore_n 3, 1) := dk_78 (dk_at dksX1_endsAs_0 5 rfl rfl)
theorem dX1_endsAs_6 : decode cX1_endsAs 6 = .ok (.iload_n 2, 1) := dk_28 (dk_at dksX1_endsAs_0 6 rfl rfl)
theorem dX1_endsAs_7 : decode cX1_endsAs 7 = .ok (.invokestatic 357, 3) := dk_184 1 101 (dk_at dksX1_endsAs_0 7 rfl rfl)
theorem dX1_endsAs_10 : decode cX1_endsAs 10 = .ok (.aload_n 0, 1) := dk_42 (dk_at dksX1_endsAs_0 10 rfl rfl)
theorem dX1_endsAs_11 : decode cX1_endsAs 11 = .ok (.invokevirtual 351, 3) := dk_182 1 95 (dk_at dksX1_endsAs_0 11 rfl rfl)
theorem dX1_endsAs_14 : decode cX1_endsAs 14 = .ok (.astore 4, 2) := dk_58 4 (dk_at dksX1_endsAs_0 14 rfl rfl)
theorem dX1_endsAs_16 : decode cX1_endsAs 16 = .ok (.aload 4, 2) := dk_25 4 (dk_at dksX1_endsAs_0 16 rfl rfl)
theorem dX1_endsAs_18 : decode cX1_endsAs 18 = .ok (.iload_n 2, 1) := dk_28 (dk_at dksX1_endsAs_0 18 rfl rfl)
theorem dX1_endsAs_19 : decode cX1_endsAs 19 = .ok (.invokevirtual 360, 3) := dk_182 1 104 (dk_at dksX1_endsAs_0 19 rfl rfl)
theorem dX1_endsAs_22 : decode cX1_endsAs 22 = .ok (.istore 5, 2) := dk_54 5 (dk_at dksX1_endsAs_0 22 rfl rfl)
theorem dX1_endsAs_24 : decode cX1_endsAs 24 = .ok (.aload 4, 2) := dk_25 4 (dk_at dksX1_endsAs_1 0 rfl rfl)
theorem dX1_endsAs_26 : decode cX1_endsAs 26 = .ok (.iload_n 1, 1) := dk_27 (dk_at dksX1_endsAs_1 2 rfl rfl)
theorem dX1_endsAs_27 : decode cX1_endsAs 27 = .ok (.invokevirtual 157, 3) := dk_182 0 157 (dk_at dksX1_endsAs_1 3 rfl rfl)
theorem dX1_endsAs_30 : decode cX1_endsAs 30 = .ok (.invokestatic 363, 3) := dk_184 1 107 (dk_at dksX1_endsAs_1 6 rfl rfl)
theorem dX1_endsAs_33 : decode cX1_endsAs 33 = .ok (.ireturn, 1) := dk_172 (dk_at dksX1_endsAs_1 9 rfl rfl)
abbrev cX1_checkTicks : ByteArray := prog_1_method_44_code
def yX1_checkTicks : MethodName := ⟨RX1, "checkTicks", "(I)V"⟩
def dkwX1_checkTicks_0 : List UInt8 := [26, 133, 9, 20, 1, 89, 184, 0, 91, 184, 0, 206, 177]
abbrev dktX1_checkTicks_0 : List UInt8 := dkwX1_checkTicks_0 ++ []
theorem dksX1_checkTicks_0 : cX1_checkTicks.data.toList.drop 0 = dktX1_checkTicks_0 := by decide +kernel
theorem dX1_checkTicks_0 : decode cX1_checkTicks 0 = .ok (.iload_n 0, 1) := dk_26 (dk_at dksX1_checkTicks_0 0 rfl rfl)
theorem dX1_checkTicks_1 : decode cX1_checkTicks 1 = .ok (.i2l, 1) := dk_133 (dk_at dksX1_checkTicks_0 1 rfl rfl)
theorem dX1_checkTicks_2 : decode cX1_checkTicks 2 = .ok (.lconst 0, 1) := dk_9 (dk_at dksX1_checkTicks_0 2 rfl rfl)
theorem dX1_checkTicks_3 : decode cX1_checkTicks 3 = .ok (.ldc2_w 345, 3) := dk_20 1 89 (dk_at dksX1_checkTicks_0 3 rfl rfl)
theorem dX1_checkTicks_6 : decode cX1_checkTicks 6 = .ok (.invokestatic 91, 3) := dk_184 0 91 (dk_at dksX1_checkTicks_0 6 rfl rfl)
theorem dX1_checkTicks_9 : decode cX1_checkTicks 9 = .ok (.invokestatic 206, 3) := dk_184 0 206 (dk_at dksX1_checkTicks_0 9 rfl rfl)
theorem dX1_checkTicks_12 : decode cX1_checkTicks 12 = .ok (.return_, 1) := dk_177 (dk_at dksX1_checkTicks_0 12 rfl rfl)
abbrev cX1_ending : ByteArray := prog_1_method_47_code
def yX1_ending : MethodName := ⟨RX1, "ending", "(LSortingLoop$Parcel;)I"⟩
def dkwX1_ending_1 : List UInt8 := [180, 1, 5, 154, 0, 7, 3, 167, 0, 9, 42, 180, 1, 5, 4, 96, 172]
abbrev dktX1_ending_1 : List UInt8 := dkwX1_ending_1 ++ []
def dkwX1_ending_0 : List UInt8 := [42, 180, 1, 5, 4, 160, 0, 16, 42, 182, 1, 60, 153, 0, 7, 4, 167, 0, 4, 5, 172, 42]
abbrev dktX1_ending_0 : List UInt8 := dkwX1_ending_0 ++ dktX1_ending_1
theorem dksX1_ending_0 : cX1_ending.data.toList.drop 0 = dktX1_ending_0 := by decide +kernel
theorem dksX1_ending_1 : cX1_ending.data.toList.drop 22 = dktX1_ending_1 := dk_seg dksX1_ending_0 22 rfl rfl
theorem dX1_ending_0 : decode cX1_ending 0 = .ok (.aload_n 0, 1) := dk_42 (dk_at dksX1_ending_0 0 rfl rfl)
theorem dX1_ending_1 : decode cX1_ending 1 = .ok (.getfield 261, 3) := dk_180 1 5 (dk_at dksX1_ending_0 1 rfl rfl)
theorem dX1_ending_4 : decode cX1_ending 4 = .ok (.iconst 1, 1) := dk_4 (dk_at dksX1_ending_0 4 rfl rfl)
theorem dX1_ending_5 : decode cX1_ending 5 = .ok (.if_icmp .ne 16, 3) := dk_160 0 16 (dk_at dksX1_ending_0 5 rfl rfl)
theorem dX1_ending_8 : decode cX1_ending 8 = .ok (.aload_n 0, 1) := dk_42 (dk_at dksX1_ending_0 8 rfl rfl)
theorem dX1_ending_9 : decode cX1_ending 9 = .ok (.invokevirtual 316, 3) := dk_182 1 60 (dk_at dksX1_ending_0 9 rfl rfl)
theorem dX1_ending_12 : decode cX1_ending 12 = .ok (.ifCond .eq 7, 3) := dk_153 0 7 (dk_at dksX1_ending_0 12 rfl rfl)
theorem dX1_ending_15 : decode cX1_ending 15 = .ok (.iconst 1, 1) := dk_4 (dk_at dksX1_ending_0 15 rfl rfl)
theorem dX1_ending_16 : decode cX1_ending 16 = .ok (.goto 4, 3) := dk_167 0 4 (dk_at dksX1_ending_0 16 rfl rfl)
theorem dX1_ending_19 : decode cX1_ending 19 = .ok (.iconst 2, 1) := dk_5 (dk_at dksX1_ending_0 19 rfl rfl)
theorem dX1_ending_20 : decode cX1_ending 20 = .ok (.ireturn, 1) := dk_172 (dk_at dksX1_ending_0 20 rfl rfl)
theorem dX1_ending_21 : decode cX1_ending 21 = .ok (.aload_n 0, 1) := dk_42 (dk_at dksX1_ending_0 21 rfl rfl)
theorem dX1_ending_22 : decode cX1_ending 22 = .ok (.getfield 261, 3) := dk_180 1 5 (dk_at dksX1_ending_1 0 rfl rfl)
theorem dX1_ending_25 : decode cX1_ending 25 = .ok (.ifCond .ne 7, 3) := dk_154 0 7 (dk_at dksX1_ending_1 3 rfl rfl)
theorem dX1_ending_28 : decode cX1_ending 28 = .ok (.iconst 0, 1) := dk_3 (dk_at dksX1_ending_1 6 rfl rfl)
theorem dX1_ending_29 : decode cX1_ending 29 = .ok (.goto 9, 3) := dk_167 0 9 (dk_at dksX1_ending_1 7 rfl rfl)
theorem dX1_ending_32 : decode cX1_ending 32 = .ok (.aload_n 0, 1) := dk_42 (dk_at dksX1_ending_1 10 rfl rfl)
theorem dX1_ending_33 : decode cX1_ending 33 = .ok (.getfield 261, 3) := dk_180 1 5 (dk_at dksX1_ending_1 11 rfl rfl)
theorem dX1_ending_36 : decode cX1_ending 36 = .ok (.iconst 1, 1) := dk_4 (dk_at dksX1_ending_1 14 rfl rfl)
theorem dX1_ending_37 : decode cX1_ending 37 = .ok (.iadd, 1) := dk_96 (dk_at dksX1_ending_1 15 rfl rfl)
theorem dX1_ending_38 : decode cX1_ending 38 = .ok (.ireturn, 1) := dk_172 (dk_at dksX1_ending_1 16 rfl rfl)
abbrev cX1_heldIn : ByteArray := prog_1_method_49_code
def yX1_heldIn : MethodName := ⟨RX1, "heldIn", "(II)I"⟩
def dkwX1_heldIn_1 : List UInt8 := [25, 4, 27, 182, 0, 217, 180, 1, 35, 185, 0, 123, 1, 0, 172]
abbrev dktX1_heldIn_1 : List UInt8 := dkwX1_heldIn_1 ++ []
def dkwX1_heldIn_0 : List UInt8 := [42, 27, 182, 1, 16, 78, 28, 184, 1, 101, 42, 182, 1, 95, 58, 4, 25, 4, 28, 182, 1, 104, 54, 5]
abbrev dktX1_heldIn_0 : List UInt8 := dkwX1_heldIn_0 ++ dktX1_heldIn_1
theorem dksX1_heldIn_0 : cX1_heldIn.data.toList.drop 0 = dktX1_heldIn_0 := by decide +kernel
theorem dksX1_heldIn_1 : cX1_heldIn.data.toList.drop 24 = dktX1_heldIn_1 := dk_seg dksX1_heldIn_0 24 rfl rfl
theorem dX1_heldIn_0 : decode cX1_heldIn 0 = .ok (.aload_n 0, 1) := dk_42 (dk_at dksX1_heldIn_0 0 rfl rfl)
theorem dX1_heldIn_1 : decode cX1_heldIn 1 = .ok (.iload_n 1, 1) := dk_27 (dk_at dksX1_heldIn_0 1 rfl rfl)
theorem dX1_heldIn_2 : decode cX1_heldIn 2 = .ok (.invokevirtual 272, 3) := dk_182 1 16 (dk_at dksX1_heldIn_0 2 rfl rfl)
theorem dX1_heldIn_5 : decode cX1_heldIn 5 = .ok (.astore_n 3, 1) := dk_78 (dk_at dksX1_heldIn_0 5 rfl rfl)
theorem dX1_heldIn_6 : decode cX1_heldIn 6 = .ok (.iload_n 2, 1) := dk_28 (dk_at dksX1_heldIn_0 6 rfl rfl)
theorem dX1_heldIn_7 : decode cX1_heldIn 7 = .ok (.invokestatic 357, 3) := dk_184 1 101 (dk_at dksX1_heldIn_0 7 rfl rfl)
theorem dX1_heldIn_10 : decode cX1_heldIn 10 = .ok (.aload_n 0, 1) := dk_42 (dk_at dksX1_heldIn_0 10 rfl rfl)
theorem dX1_heldIn_11 : decode cX1_heldIn 11 = .ok (.invokevirtual 351, 3) := dk_182 1 95 (dk_at dksX1_heldIn_0 11 rfl rfl)
theorem dX1_heldIn_14 : decode cX1_heldIn 14 = .ok (.astore 4, 2) := dk_58 4 (dk_at dksX1_heldIn_0 14 rfl rfl)
theorem dX1_heldIn_16 : decode cX1_heldIn 16 = .ok (.aload 4, 2) := dk_25 4 (dk_at dksX1_heldIn_0 16 rfl rfl)
theorem dX1_heldIn_18 : decode cX1_heldIn 18 = .ok (.iload_n 2, 1) := dk_28 (dk_at dksX1_heldIn_0 18 rfl rfl)
theorem dX1_heldIn_19 : decode cX1_heldIn 19 = .ok (.invokevirtual 360, 3) := dk_182 1 104 (dk_at dksX1_heldIn_0 19 rfl rfl)
theorem dX1_heldIn_22 : decode cX1_heldIn 22 = .ok (.istore 5, 2) := dk_54 5 (dk_at dksX1_heldIn_0 22 rfl rfl)
theorem dX1_heldIn_24 : decode cX1_heldIn 24 = .ok (.aload 4, 2) := dk_25 4 (dk_at dksX1_heldIn_1 0 rfl rfl)
theorem dX1_heldIn_26 : decode cX1_heldIn 26 = .ok (.iload_n 1, 1) := dk_27 (dk_at dksX1_heldIn_1 2 rfl rfl)
theorem dX1_heldIn_27 : decode cX1_heldIn 27 = .ok (.invokevirtual 217, 3) := dk_182 0 217 (dk_at dksX1_heldIn_1 3 rfl rfl)
theorem dX1_heldIn_30 : decode cX1_heldIn 30 = .ok (.getfield 291, 3) := dk_180 1 35 (dk_at dksX1_heldIn_1 6 rfl rfl)
theorem dX1_heldIn_33 : decode cX1_heldIn 33 = .ok (.invokeinterface 123 1, 5) := by decide +kernel
theorem dX1_heldIn_38 : decode cX1_heldIn 38 = .ok (.ireturn, 1) := dk_172 (dk_at dksX1_heldIn_1 14 rfl rfl)
abbrev cX1_growsIn : ByteArray := prog_1_method_50_code
def yX1_growsIn : MethodName := ⟨RX1, "growsIn", "(II)I"⟩
def dkwX1_growsIn_2 : List UInt8 := [27, 46, 42, 180, 0, 50, 180, 0, 210, 27, 46, 100, 172]
abbrev dktX1_growsIn_2 : List UInt8 := dkwX1_growsIn_2 ++ []
def dkwX1_growsIn_1 : List UInt8 := [4, 167, 0, 4, 3, 184, 0, 206, 42, 182, 1, 95, 78, 45, 28, 182, 1, 104, 54, 4, 45, 180, 0, 210]
abbrev dktX1_growsIn_1 : List UInt8 := dkwX1_growsIn_1 ++ dktX1_growsIn_2
def dkwX1_growsIn_0 : List UInt8 := [27, 133, 9, 20, 0, 204, 184, 0, 91, 153, 0, 19, 28, 133, 9, 20, 1, 89, 184, 0, 91, 153, 0, 7]
abbrev dktX1_growsIn_0 : List UInt8 := dkwX1_growsIn_0 ++ dktX1_growsIn_1
theorem dksX1_growsIn_0 : cX1_growsIn.data.toList.drop 0 = dktX1_growsIn_0 := by decide +kernel
theorem dksX1_growsIn_1 : cX1_growsIn.data.toList.drop 24 = dktX1_growsIn_1 := dk_seg dksX1_growsIn_0 24 rfl rfl
theorem dksX1_growsIn_2 : cX1_growsIn.data.toList.drop 48 = dktX1_growsIn_2 := dk_seg dksX1_growsIn_1 24 rfl rfl
theorem dX1_growsIn_0 : decode cX1_growsIn 0 = .ok (.iload_n 1, 1) := dk_27 (dk_at dksX1_growsIn_0 0 rfl rfl)
theorem dX1_growsIn_1 : decode cX1_growsIn 1 = .ok (.i2l, 1) := dk_133 (dk_at dksX1_growsIn_0 1 rfl rfl)
theorem dX1_growsIn_2 : decode cX1_growsIn 2 = .ok (.lconst 0, 1) := dk_9 (dk_at dksX1_growsIn_0 2 rfl rfl)
theorem dX1_growsIn_3 : decode cX1_growsIn 3 = .ok (.ldc2_w 204, 3) := dk_20 0 204 (dk_at dksX1_growsIn_0 3 rfl rfl)
theorem dX1_growsIn_6 : decode cX1_growsIn 6 = .ok (.invokestatic 91, 3) := dk_184 0 91 (dk_at dksX1_growsIn_0 6 rfl rfl)
theorem dX1_growsIn_9 : decode cX1_growsIn 9 = .ok (.ifCond .eq 19, 3) := dk_153 0 19 (dk_at dksX1_growsIn_0 9 rfl rfl)
theorem dX1_growsIn_12 : decode cX1_growsIn 12 = .ok (.iload_n 2, 1) := dk_28 (dk_at dksX1_growsIn_0 12 rfl rfl)
theorem dX1_growsIn_13 : decode cX1_growsIn 13 = .ok (.i2l, 1) := dk_133 (dk_at dksX1_growsIn_0 13 rfl rfl)
theorem dX1_growsIn_14 : decode cX1_growsIn 14 = .ok (.lconst 0, 1) := dk_9 (dk_at dksX1_growsIn_0 14 rfl rfl)
theorem dX1_growsIn_15 : decode cX1_growsIn 15 = .ok (.ldc2_w 345, 3) := dk_20 1 89 (dk_at dksX1_growsIn_0 15 rfl rfl)
theorem dX1_growsIn_18 : decode cX1_growsIn 18 = .ok (.invokestatic 91, 3) := dk_184 0 91 (dk_at dksX1_growsIn_0 18 rfl rfl)
theorem dX1_growsIn_21 : decode cX1_growsIn 21 = .ok (.ifCond .eq 7, 3) := dk_153 0 7 (dk_at dksX1_growsIn_0 21 rfl rfl)
theorem dX1_growsIn_24 : decode cX1_growsIn 24 = .ok (.iconst 1, 1) := dk_4 (dk_at dksX1_growsIn_1 0 rfl rfl)
theorem dX1_growsIn_25 : decode cX1_growsIn 25 = .ok (.goto 4, 3) := dk_167 0 4 (dk_at dksX1_growsIn_1 1 rfl rfl)
theorem dX1_growsIn_28 : decode cX1_growsIn 28 = .ok (.iconst 0, 1) := dk_3 (dk_at dksX1_growsIn_1 4 rfl rfl)
theorem dX1_growsIn_29 : decode cX1_growsIn 29 = .ok (.invokestatic 206, 3) := dk_184 0 206 (dk_at dksX1_growsIn_1 5 rfl rfl)
theorem dX1_growsIn_32 : decode cX1_growsIn 32 = .ok (.aload_n 0, 1) := dk_42 (dk_at dksX1_growsIn_1 8 rfl rfl)
theorem dX1_growsIn_33 : decode cX1_growsIn 33 = .ok (.invokevirtual 351, 3) := dk_182 1 95 (dk_at dksX1_growsIn_1 9 rfl rfl)
theorem dX1_growsIn_36 : decode cX1_growsIn 36 = .ok (.astore_n 3, 1) := dk_78 (dk_at dksX1_growsIn_1 12 rfl rfl)
theorem dX1_growsIn_37 : decode cX1_growsIn 37 = .ok (.aload_n 3, 1) := dk_45 (dk_at dksX1_growsIn_1 13 rfl rfl)
theorem dX1_growsIn_38 : decode cX1_growsIn 38 = .ok (.iload_n 2, 1) := dk_28 (dk_at dksX1_growsIn_1 14 rfl rfl)
theorem dX1_growsIn_39 : decode cX1_growsIn 39 = .ok (.invokevirtual 360, 3) := dk_182 1 104 (dk_at dksX1_growsIn_1 15 rfl rfl)
theorem dX1_growsIn_42 : decode cX1_growsIn 42 = .ok (.istore 4, 2) := dk_54 4 (dk_at dksX1_growsIn_1 18 rfl rfl)
theorem dX1_growsIn_44 : decode cX1_growsIn 44 = .ok (.aload_n 3, 1) := dk_45 (dk_at dksX1_growsIn_1 20 rfl rfl)
theorem dX1_growsIn_45 : decode cX1_growsIn 45 = .ok (.getfield 210, 3) := dk_180 0 210 (dk_at dksX1_growsIn_1 21 rfl rfl)
theorem dX1_growsIn_48 : decode cX1_growsIn 48 = .ok (.iload_n 1, 1) := dk_27 (dk_at dksX1_growsIn_2 0 rfl rfl)
theorem dX1_growsIn_49 : decode cX1_growsIn 49 = .ok (.iaload, 1) := dk_46 (dk_at dksX1_growsIn_2 1 rfl rfl)
theorem dX1_growsIn_50 : decode cX1_growsIn 50 = .ok (.aload_n 0, 1) := dk_42 (dk_at dksX1_growsIn_2 2 rfl rfl)
theorem dX1_growsIn_51 : decode cX1_growsIn 51 = .ok (.getfield 50, 3) := dk_180 0 50 (dk_at dksX1_growsIn_2 3 rfl rfl)
theorem dX1_growsIn_54 : decode cX1_growsIn 54 = .ok (.getfield 210, 3) := dk_180 0 210 (dk_at dksX1_growsIn_2 6 rfl rfl)
theorem dX1_growsIn_57 : decode cX1_growsIn 57 = .ok (.iload_n 1, 1) := dk_27 (dk_at dksX1_growsIn_2 9 rfl rfl)
theorem dX1_growsIn_58 : decode cX1_growsIn 58 = .ok (.iaload, 1) := dk_46 (dk_at dksX1_growsIn_2 10 rfl rfl)
theorem dX1_growsIn_59 : decode cX1_growsIn 59 = .ok (.isub, 1) := dk_100 (dk_at dksX1_growsIn_2 11 rfl rfl)
theorem dX1_growsIn_60 : decode cX1_growsIn 60 = .ok (.ireturn, 1) := dk_172 (dk_at dksX1_growsIn_2 12 rfl rfl)
abbrev cX1_gainOf : ByteArray := prog_1_method_52_code
def yX1_gainOf : MethodName := ⟨RX1, "gainOf", "(II)I"⟩
def dkwX1_gainOf_0 : List UInt8 := [42, 27, 182, 1, 16, 78, 28, 184, 1, 101, 42, 27, 28, 182, 1, 118, 42, 2, 28, 182, 1, 118, 100, 172]
abbrev dktX1_gainOf_0 : List UInt8 := dkwX1_gainOf_0 ++ []
theorem dksX1_gainOf_0 : cX1_gainOf.data.toList.drop 0 = dktX1_gainOf_0 := by decide +kernel
theorem dX1_gainOf_0 : decode cX1_gainOf 0 = .ok (.aload_n 0, 1) := dk_42 (dk_at dksX1_gainOf_0 0 rfl rfl)
theorem dX1_gainOf_1 : decode cX1_gainOf 1 = .ok (.iload_n 1, 1) := dk_27 (dk_at dksX1_gainOf_0 1 rfl rfl)
theorem dX1_gainOf_2 : decode cX1_gainOf 2 = .ok (.invokevirtual 272, 3) := dk_182 1 16 (dk_at dksX1_gainOf_0 2 rfl rfl)
theorem dX1_gainOf_5 : decode cX1_gainOf 5 = .ok (.astore_n 3, 1) := dk_78 (dk_at dksX1_gainOf_0 5 rfl rfl)
theorem dX1_gainOf_6 : decode cX1_gainOf 6 = .ok (.iload_n 2, 1) := dk_28 (dk_at dksX1_gainOf_0 6 rfl rfl)
theorem dX1_gainOf_7 : decode cX1_gainOf 7 = .ok (.invokestatic 357, 3) := dk_184 1 101 (dk_at dksX1_gainOf_0 7 rfl rfl)
theorem dX1_gainOf_10 : decode cX1_gainOf 10 = .ok (.aload_n 0, 1) := dk_42 (dk_at dksX1_gainOf_0 10 rfl rfl)
theorem dX1_gainOf_11 : decode cX1_gainOf 11 = .ok (.iload_n 1, 1) := dk_27 (dk_at dksX1_gainOf_0 11 rfl rfl)
theorem dX1_gainOf_12 : decode cX1_gainOf 12 = .ok (.iload_n 2, 1) := dk_28 (dk_at dksX1_gainOf_0 12 rfl rfl)
theorem dX1_gainOf_13 : decode cX1_gainOf 13 = .ok (.invokevirtual 374, 3) := dk_182 1 118 (dk_at dksX1_gainOf_0 13 rfl rfl)
theorem dX1_gainOf_16 : decode cX1_gainOf 16 = .ok (.aload_n 0, 1) := dk_42 (dk_at dksX1_gainOf_0 16 rfl rfl)
theorem dX1_gainOf_17 : decode cX1_gainOf 17 = .ok (.iconst (-1), 1) := dk_2 (dk_at dksX1_gainOf_0 17 rfl rfl)
theorem dX1_gainOf_18 : decode cX1_gainOf 18 = .ok (.iload_n 2, 1) := dk_28 (dk_at dksX1_gainOf_0 18 rfl rfl)
theorem dX1_gainOf_19 : decode cX1_gainOf 19 = .ok (.invokevirtual 374, 3) := dk_182 1 118 (dk_at dksX1_gainOf_0 19 rfl rfl)
theorem dX1_gainOf_22 : decode cX1_gainOf 22 = .ok (.isub, 1) := dk_100 (dk_at dksX1_gainOf_0 22 rfl rfl)
theorem dX1_gainOf_23 : decode cX1_gainOf 23 = .ok (.ireturn, 1) := dk_172 (dk_at dksX1_gainOf_0 23 rfl rfl)
abbrev cX1_sortedIf : ByteArray := prog_1_method_51_code
def yX1_sortedIf : MethodName := ⟨RX1, "sortedIf", "(II)I"⟩
def dkwX1_sortedIf_1 : List UInt8 := [182, 0, 217, 4, 182, 1, 114, 96, 54, 4, 45, 28, 182, 1, 104, 54, 4, 45, 180, 0, 210, 5, 46, 172]
abbrev dktX1_sortedIf_1 : List UInt8 := dkwX1_sortedIf_1 ++ []
def dkwX1_sortedIf_0 : List UInt8 := [42, 182, 1, 95, 78, 27, 2, 159, 0, 25, 45, 45, 27, 182, 0, 217, 182, 1, 110, 45, 45, 27]
abbrev dktX1_sortedIf_0 : List UInt8 := dkwX1_sortedIf_0 ++ dktX1_sortedIf_1
theorem dksX1_sortedIf_0 : cX1_sortedIf.data.toList.drop 0 = dktX1_sortedIf_0 := by decide +kernel
theorem dksX1_sortedIf_1 : cX1_sortedIf.data.toList.drop 22 = dktX1_sortedIf_1 := dk_seg dksX1_sortedIf_0 22 rfl rfl
theorem dX1_sortedIf_0 : decode cX1_sortedIf 0 = .ok (.aload_n 0, 1) := dk_42 (dk_at dksX1_sortedIf_0 0 rfl rfl)
theorem dX1_sortedIf_1 : decode cX1_sortedIf 1 = .ok (.invokevirtual 351, 3) := dk_182 1 95 (dk_at dksX1_sortedIf_0 1 rfl rfl)
theorem dX1_sortedIf_4 : decode cX1_sortedIf 4 = .ok (.astore_n 3, 1) := dk_78 (dk_at dksX1_sortedIf_0 4 rfl rfl)
theorem dX1_sortedIf_5 : decode cX1_sortedIf 5 = .ok (.iload_n 1, 1) := dk_27 (dk_at dksX1_sortedIf_0 5 rfl rfl)
theorem dX1_sortedIf_6 : decode cX1_sortedIf 6 = .ok (.iconst (-1), 1) := dk_2 (dk_at dksX1_sortedIf_0 6 rfl rfl)
theorem dX1_sortedIf_7 : decode cX1_sortedIf 7 = .ok (.if_icmp .eq 25, 3) := dk_159 0 25 (dk_at dksX1_sortedIf_0 7 rfl rfl)
theorem dX1_sortedIf_10 : decode cX1_sortedIf 10 = .ok (.aload_n 3, 1) := dk_45 (dk_at dksX1_sortedIf_0 10 rfl rfl)
theorem dX1_sortedIf_11 : decode cX1_sortedIf 11 = .ok (.aload_n 3, 1) := dk_45 (dk_at dksX1_sortedIf_0 11 rfl rfl)
theorem dX1_sortedIf_12 : decode cX1_sortedIf 12 = .ok (.iload_n 1, 1) := dk_27 (dk_at dksX1_sortedIf_0 12 rfl rfl)
theorem dX1_sortedIf_13 : decode cX1_sortedIf 13 = .ok (.invokevirtual 217, 3) := dk_182 0 217 (dk_at dksX1_sortedIf_0 13 rfl rfl)
theorem dX1_sortedIf_16 : decode cX1_sortedIf 16 = .ok (.invokevirtual 366, 3) := dk_182 1 110 (dk_at dksX1_sortedIf_0 16 rfl rfl)
theorem dX1_sortedIf_19 : decode cX1_sortedIf 19 = .ok (.aload_n 3, 1) := dk_45 (dk_at dksX1_sortedIf_0 19 rfl rfl)
theorem dX1_sortedIf_20 : decode cX1_sortedIf 20 = .ok (.aload_n 3, 1) := dk_45 (dk_at dksX1_sortedIf_0 20 rfl rfl)
theorem dX1_sortedIf_21 : decode cX1_sortedIf 21 = .ok (.iload_n 1, 1) := dk_27 (dk_at dksX1_sortedIf_0 21 rfl rfl)
theorem dX1_sortedIf_22 : decode cX1_sortedIf 22 = .ok (.invokevirtual 217, 3) := dk_182 0 217 (dk_at dksX1_sortedIf_1 0 rfl rfl)
theorem dX1_sortedIf_25 : decode cX1_sortedIf 25 = .ok (.iconst 1, 1) := dk_4 (dk_at dksX1_sortedIf_1 3 rfl rfl)
theorem dX1_sortedIf_26 : decode cX1_sortedIf 26 = .ok (.invokevirtual 370, 3) := dk_182 1 114 (dk_at dksX1_sortedIf_1 4 rfl rfl)
theorem dX1_sortedIf_29 : decode cX1_sortedIf 29 = .ok (.iadd, 1) := dk_96 (dk_at dksX1_sortedIf_1 7 rfl rfl)
theorem dX1_sortedIf_30 : decode cX1_sortedIf 30 = .ok (.istore 4, 2) := dk_54 4 (dk_at dksX1_sortedIf_1 8 rfl rfl)
theorem dX1_sortedIf_32 : decode cX1_sortedIf 32 = .ok (.aload_n 3, 1) := dk_45 (dk_at dksX1_sortedIf_1 10 rfl rfl)
theorem dX1_sortedIf_33 : decode cX1_sortedIf 33 = .ok (.iload_n 2, 1) := dk_28 (dk_at dksX1_sortedIf_1 11 rfl rfl)
theorem dX1_sortedIf_34 : decode cX1_sortedIf 34 = .ok (.invokevirtual 360, 3) := dk_182 1 104 (dk_at dksX1_sortedIf_1 12 rfl rfl)
theorem dX1_sortedIf_37 : decode cX1_sortedIf 37 = .ok (.istore 4, 2) := dk_54 4 (dk_at dksX1_sortedIf_1 15 rfl rfl)
theorem dX1_sortedIf_39 : decode cX1_sortedIf 39 = .ok (.aload_n 3, 1) := dk_45 (dk_at dksX1_sortedIf_1 17 rfl rfl)
theorem dX1_sortedIf_40 : decode cX1_sortedIf 40 = .ok (.getfield 210, 3) := dk_180 0 210 (dk_at dksX1_sortedIf_1 18 rfl rfl)
theorem dX1_sortedIf_43 : decode cX1_sortedIf 43 = .ok (.iconst 2, 1) := dk_5 (dk_at dksX1_sortedIf_1 21 rfl rfl)
theorem dX1_sortedIf_44 : decode cX1_sortedIf 44 = .ok (.iaload, 1) := dk_46 (dk_at dksX1_sortedIf_1 22 rfl rfl)
theorem dX1_sortedIf_45 : decode cX1_sortedIf 45 = .ok (.ireturn, 1) := dk_172 (dk_at dksX1_sortedIf_1 23 rfl rfl)
abbrev cX1_bestEmpty : ByteArray := prog_1_method_53_code
def yX1_bestEmpty : MethodName := ⟨RX1, "bestEmpty", "(I)I"⟩
def dkwX1_bestEmpty_2 : List UInt8 := [163, 0, 6, 167, 0, 9, 21, 4, 61, 21, 5, 62, 132, 4, 1, 167, 255, 212, 28, 172]
abbrev dktX1_bestEmpty_2 : List UInt8 := dkwX1_bestEmpty_2 ++ []
def dkwX1_bestEmpty_1 : List UInt8 := [180, 0, 69, 185, 0, 123, 1, 0, 162, 0, 33, 42, 21, 4, 27, 182, 1, 118, 54, 5, 21, 5, 29]
abbrev dktX1_bestEmpty_1 : List UInt8 := dkwX1_bestEmpty_1 ++ dktX1_bestEmpty_2
def dkwX1_bestEmpty_0 : List UInt8 := [27, 184, 1, 101, 2, 61, 42, 2, 27, 182, 1, 118, 62, 3, 54, 4, 21, 4, 42, 180, 0, 50]
abbrev dktX1_bestEmpty_0 : List UInt8 := dkwX1_bestEmpty_0 ++ dktX1_bestEmpty_1
theorem dksX1_bestEmpty_0 : cX1_bestEmpty.data.toList.drop 0 = dktX1_bestEmpty_0 := by decide +kernel
theorem dksX1_bestEmpty_1 : cX1_bestEmpty.data.toList.drop 22 = dktX1_bestEmpty_1 := dk_seg dksX1_bestEmpty_0 22 rfl rfl
theorem dksX1_bestEmpty_2 : cX1_bestEmpty.data.toList.drop 45 = dktX1_bestEmpty_2 := dk_seg dksX1_bestEmpty_1 23 rfl rfl
theorem dX1_bestEmpty_0 : decode cX1_bestEmpty 0 = .ok (.iload_n 1, 1) := dk_27 (dk_at dksX1_bestEmpty_0 0 rfl rfl)
theorem dX1_bestEmpty_1 : decode cX1_bestEmpty 1 = .ok (.invokestatic 357, 3) := dk_184 1 101 (dk_at dksX1_bestEmpty_0 1 rfl rfl)
theorem dX1_bestEmpty_4 : decode cX1_bestEmpty 4 = .ok (.iconst (-1), 1) := dk_2 (dk_at dksX1_bestEmpty_0 4 rfl rfl)
theorem dX1_bestEmpty_5 : decode cX1_bestEmpty 5 = .ok (.istore_n 2, 1) := dk_61 (dk_at dksX1_bestEmpty_0 5 rfl rfl)
theorem dX1_bestEmpty_6 : decode cX1_bestEmpty 6 = .ok (.aload_n 0, 1) := dk_42 (dk_at dksX1_bestEmpty_0 6 rfl rfl)
theorem dX1_bestEmpty_7 : decode cX1_bestEmpty 7 = .ok (.iconst (-1), 1) := dk_2 (dk_at dksX1_bestEmpty_0 7 rfl rfl)
theorem dX1_bestEmpty_8 : decode cX1_bestEmpty 8 = .ok (.iload_n 1, 1) := dk_27 (dk_at dksX1_bestEmpty_0 8 rfl rfl)
theorem dX1_bestEmpty_9 : decode cX1_bestEmpty 9 = .ok (.invokevirtual 374, 3) := dk_182 1 118 (dk_at dksX1_bestEmpty_0 9 rfl rfl)
theorem dX1_bestEmpty_12 : decode cX1_bestEmpty 12 = .ok (.istore_n 3, 1) := dk_62 (dk_at dksX1_bestEmpty_0 12 rfl rfl)
theorem dX1_bestEmpty_13 : decode cX1_bestEmpty 13 = .ok (.iconst 0, 1) := dk_3 (dk_at dksX1_bestEmpty_0 13 rfl rfl)
theorem dX1_bestEmpty_14 : decode cX1_bestEmpty 14 = .ok (.istore 4, 2) := dk_54 4 (dk_at dksX1_bestEmpty_0 14 rfl rfl)
theorem dX1_bestEmpty_16 : decode cX1_bestEmpty 16 = .ok (.iload 4, 2) := dk_21 4 (dk_at dksX1_bestEmpty_0 16 rfl rfl)
theorem dX1_bestEmpty_18 : decode cX1_bestEmpty 18 = .ok (.aload_n 0, 1) := dk_42 (dk_at dksX1_bestEmpty_0 18 rfl rfl)
theorem dX1_bestEmpty_19 : decode cX1_bestEmpty 19 = .ok (.getfield 50, 3) := dk_180 0 50 (dk_at dksX1_bestEmpty_0 19 rfl rfl)
theorem dX1_bestEmpty_22 : decode cX1_bestEmpty 22 = .ok (.getfield 69, 3) := dk_180 0 69 (dk_at dksX1_bestEmpty_1 0 rfl rfl)
theorem dX1_bestEmpty_25 : decode cX1_bestEmpty 25 = .ok (.invokeinterface 123 1, 5) := by decide +kernel
theorem dX1_bestEmpty_30 : decode cX1_bestEmpty 30 = .ok (.if_icmp .ge 33, 3) := dk_162 0 33 (dk_at dksX1_bestEmpty_1 8 rfl rfl)
theorem dX1_bestEmpty_33 : decode cX1_bestEmpty 33 = .ok (.aload_n 0, 1) := dk_42 (dk_at dksX1_bestEmpty_1 11 rfl rfl)
theorem dX1_bestEmpty_34 : decode cX1_bestEmpty 34 = .ok (.iload 4, 2) := dk_21 4 (dk_at dksX1_bestEmpty_1 12 rfl rfl)
theorem dX1_bestEmpty_36 : decode cX1_bestEmpty 36 = .ok (.iload_n 1, 1) := dk_27 (dk_at dksX1_bestEmpty_1 14 rfl rfl)
theorem dX1_bestEmpty_37 : decode cX1_bestEmpty 37 = .ok (.invokevirtual 374, 3) := dk_182 1 118 (dk_at dksX1_bestEmpty_1 15 rfl rfl)
theorem dX1_bestEmpty_40 : decode cX1_bestEmpty 40 = .ok (.istore 5, 2) := dk_54 5 (dk_at dksX1_bestEmpty_1 18 rfl rfl)
theorem dX1_bestEmpty_42 : decode cX1_bestEmpty 42 = .ok (.iload 5, 2) := dk_21 5 (dk_at dksX1_bestEmpty_1 20 rfl rfl)
theorem dX1_bestEmpty_44 : decode cX1_bestEmpty 44 = .ok (.iload_n 3, 1) := dk_29 (dk_at dksX1_bestEmpty_1 22 rfl rfl)
theorem dX1_bestEmpty_45 : decode cX1_bestEmpty 45 = .ok (.if_icmp .gt 6, 3) := dk_163 0 6 (dk_at dksX1_bestEmpty_2 0 rfl rfl)
theorem dX1_bestEmpty_48 : decode cX1_bestEmpty 48 = .ok (.goto 9, 3) := dk_167 0 9 (dk_at dksX1_bestEmpty_2 3 rfl rfl)
theorem dX1_bestEmpty_51 : decode cX1_bestEmpty 51 = .ok (.iload 4, 2) := dk_21 4 (dk_at dksX1_bestEmpty_2 6 rfl rfl)
theorem dX1_bestEmpty_53 : decode cX1_bestEmpty 53 = .ok (.istore_n 2, 1) := dk_61 (dk_at dksX1_bestEmpty_2 8 rfl rfl)
theorem dX1_bestEmpty_54 : decode cX1_bestEmpty 54 = .ok (.iload 5, 2) := dk_21 5 (dk_at dksX1_bestEmpty_2 9 rfl rfl)
theorem dX1_bestEmpty_56 : decode cX1_bestEmpty 56 = .ok (.istore_n 3, 1) := dk_62 (dk_at dksX1_bestEmpty_2 11 rfl rfl)
theorem dX1_bestEmpty_57 : decode cX1_bestEmpty 57 = .ok (.iinc 4 1, 3) := dk_132 4 1 (dk_at dksX1_bestEmpty_2 12 rfl rfl)
theorem dX1_bestEmpty_60 : decode cX1_bestEmpty 60 = .ok (.goto (-44), 3) := dk_167 255 212 (dk_at dksX1_bestEmpty_2 15 rfl rfl)
theorem dX1_bestEmpty_63 : decode cX1_bestEmpty 63 = .ok (.iload_n 2, 1) := dk_28 (dk_at dksX1_bestEmpty_2 18 rfl rfl)
theorem dX1_bestEmpty_64 : decode cX1_bestEmpty 64 = .ok (.ireturn, 1) := dk_172 (dk_at dksX1_bestEmpty_2 19 rfl rfl)
abbrev cX1_missortsIf : ByteArray := prog_1_method_54_code
def yX1_missortsIf : MethodName := ⟨RX1, "missortsIf", "(III)I"⟩
def dkwX1_missortsIf_3 : List UInt8 := [42, 180, 0, 50, 180, 0, 210, 6, 46, 100, 172]
abbrev dktX1_missortsIf_3 : List UInt8 := dkwX1_missortsIf_3 ++ []
def dkwX1_missortsIf_2 : List UInt8 := [25, 5, 27, 28, 182, 1, 123, 54, 6, 25, 5, 29, 182, 1, 104, 54, 7, 25, 5, 180, 0, 210, 6, 46]
abbrev dktX1_missortsIf_2 : List UInt8 := dkwX1_missortsIf_2 ++ dktX1_missortsIf_3
def dkwX1_missortsIf_1 : List UInt8 := [20, 1, 89, 184, 0, 91, 153, 0, 7, 4, 167, 0, 4, 3, 184, 0, 206, 42, 182, 1, 95, 58, 5]
abbrev dktX1_missortsIf_1 : List UInt8 := dkwX1_missortsIf_1 ++ dktX1_missortsIf_2
def dkwX1_missortsIf_0 : List UInt8 := [42, 27, 182, 1, 16, 58, 4, 28, 133, 9, 20, 1, 121, 184, 0, 91, 153, 0, 19, 29, 133, 9]
abbrev dktX1_missortsIf_0 : List UInt8 := dkwX1_missortsIf_0 ++ dktX1_missortsIf_1
theorem dksX1_missortsIf_0 : cX1_missortsIf.data.toList.drop 0 = dktX1_missortsIf_0 := by decide +kernel
theorem dksX1_missortsIf_1 : cX1_missortsIf.data.toList.drop 22 = dktX1_missortsIf_1 := dk_seg dksX1_missortsIf_0 22 rfl rfl
theorem dksX1_missortsIf_2 : cX1_missortsIf.data.toList.drop 45 = dktX1_missortsIf_2 := dk_seg dksX1_missortsIf_1 23 rfl rfl
theorem dksX1_missortsIf_3 : cX1_missortsIf.data.toList.drop 69 = dktX1_missortsIf_3 := dk_seg dksX1_missortsIf_2 24 rfl rfl
theorem dX1_missortsIf_0 : decode cX1_missortsIf 0 = .ok (.aload_n 0, 1) := dk_42 (dk_at dksX1_missortsIf_0 0 rfl rfl)
theorem dX1_missortsIf_1 : decode cX1_missortsIf 1 = .ok (.iload_n 1, 1) := dk_27 (dk_at dksX1_missortsIf_0 1 rfl rfl)
theorem dX1_missortsIf_2 : decode cX1_missortsIf 2 = .ok (.invokevirtual 272, 3) := dk_182 1 16 (dk_at dksX1_missortsIf_0 2 rfl rfl)
theorem dX1_missortsIf_5 : decode cX1_missortsIf 5 = .ok (.astore 4, 2) := dk_58 4 (dk_at dksX1_missortsIf_0 5 rfl rfl)
theorem dX1_missortsIf_7 : decode cX1_missortsIf 7 = .ok (.iload_n 2, 1) := dk_28 (dk_at dksX1_missortsIf_0 7 rfl rfl)
theorem dX1_missortsIf_8 : decode cX1_missortsIf 8 = .ok (.i2l, 1) := dk_133 (dk_at dksX1_missortsIf_0 8 rfl rfl)
theorem dX1_missortsIf_9 : decode cX1_missortsIf 9 = .ok (.lconst 0, 1) := dk_9 (dk_at dksX1_missortsIf_0 9 rfl rfl)
theorem dX1_missortsIf_10 : decode cX1_missortsIf 10 = .ok (.ldc2_w 377, 3) := dk_20 1 121 (dk_at dksX1_missortsIf_0 10 rfl rfl)
theorem dX1_missortsIf_13 : decode cX1_missortsIf 13 = .ok (.invokestatic 91, 3) := dk_184 0 91 (dk_at dksX1_missortsIf_0 13 rfl rfl)
theorem dX1_missortsIf_16 : decode cX1_missortsIf 16 = .ok (.ifCond .eq 19, 3) := dk_153 0 19 (dk_at dksX1_missortsIf_0 16 rfl rfl)
theorem dX1_missortsIf_19 : decode cX1_missortsIf 19 = .ok (.iload_n 3, 1) := dk_29 (dk_at dksX1_missortsIf_0 19 rfl rfl)
theorem dX1_missortsIf_20 : decode cX1_missortsIf 20 = .ok (.i2l, 1) := dk_133 (dk_at dksX1_missortsIf_0 20 rfl rfl)
theorem dX1_missortsIf_21 : decode cX1_missortsIf 21 = .ok (.lconst 0, 1) := dk_9 (dk_at dksX1_missortsIf_0 21 rfl rfl)
theorem dX1_missortsIf_22 : decode cX1_missortsIf 22 = .ok (.ldc2_w 345, 3) := dk_20 1 89 (dk_at dksX1_missortsIf_1 0 rfl rfl)
theorem dX1_missortsIf_25 : decode cX1_missortsIf 25 = .ok (.invokestatic 91, 3) := dk_184 0 91 (dk_at dksX1_missortsIf_1 3 rfl rfl)
theorem dX1_missortsIf_28 : decode cX1_missortsIf 28 = .ok (.ifCond .eq 7, 3) := dk_153 0 7 (dk_at dksX1_missortsIf_1 6 rfl rfl)
theorem dX1_missortsIf_31 : decode cX1_missortsIf 31 = .ok (.iconst 1, 1) := dk_4 (dk_at dksX1_missortsIf_1 9 rfl rfl)
theorem dX1_missortsIf_32 : decode cX1_missortsIf 32 = .ok (.goto 4, 3) := dk_167 0 4 (dk_at dksX1_missortsIf_1 10 rfl rfl)
theorem dX1_missortsIf_35 : decode cX1_missortsIf 35 = .ok (.iconst 0, 1) := dk_3 (dk_at dksX1_missortsIf_1 13 rfl rfl)
theorem dX1_missortsIf_36 : decode cX1_missortsIf 36 = .ok (.invokestatic 206, 3) := dk_184 0 206 (dk_at dksX1_missortsIf_1 14 rfl rfl)
theorem dX1_missortsIf_39 : decode cX1_missortsIf 39 = .ok (.aload_n 0, 1) := dk_42 (dk_at dksX1_missortsIf_1 17 rfl rfl)
theorem dX1_missortsIf_40 : decode cX1_missortsIf 40 = .ok (.invokevirtual 351, 3) := dk_182 1 95 (dk_at dksX1_missortsIf_1 18 rfl rfl)
theorem dX1_missortsIf_43 : decode cX1_missortsIf 43 = .ok (.astore 5, 2) := dk_58 5 (dk_at dksX1_missortsIf_1 21 rfl rfl)
theorem dX1_missortsIf_45 : decode cX1_missortsIf 45 = .ok (.aload 5, 2) := dk_25 5 (dk_at dksX1_missortsIf_2 0 rfl rfl)
theorem dX1_missortsIf_47 : decode cX1_missortsIf 47 = .ok (.iload_n 1, 1) := dk_27 (dk_at dksX1_missortsIf_2 2 rfl rfl)
theorem dX1_missortsIf_48 : decode cX1_missortsIf 48 = .ok (.iload_n 2, 1) := dk_28 (dk_at dksX1_missortsIf_2 3 rfl rfl)
theorem dX1_missortsIf_49 : decode cX1_missortsIf 49 = .ok (.invokevirtual 379, 3) := dk_182 1 123 (dk_at dksX1_missortsIf_2 4 rfl rfl)
theorem dX1_missortsIf_52 : decode cX1_missortsIf 52 = .ok (.istore 6, 2) := dk_54 6 (dk_at dksX1_missortsIf_2 7 rfl rfl)
theorem dX1_missortsIf_54 : decode cX1_missortsIf 54 = .ok (.aload 5, 2) := dk_25 5 (dk_at dksX1_missortsIf_2 9 rfl rfl)
theorem dX1_missortsIf_56 : decode cX1_missortsIf 56 = .ok (.iload_n 3, 1) := dk_29 (dk_at dksX1_missortsIf_2 11 rfl rfl)
theorem dX1_missortsIf_57 : decode cX1_missortsIf 57 = .ok (.invokevirtual 360, 3) := dk_182 1 104 (dk_at dksX1_missortsIf_2 12 rfl rfl)
theorem dX1_missortsIf_60 : decode cX1_missortsIf 60 = .ok (.istore 7, 2) := dk_54 7 (dk_at dksX1_missortsIf_2 15 rfl rfl)
theorem dX1_missortsIf_62 : decode cX1_missortsIf 62 = .ok (.aload 5, 2) := dk_25 5 (dk_at dksX1_missortsIf_2 17 rfl rfl)
theorem dX1_missortsIf_64 : decode cX1_missortsIf 64 = .ok (.getfield 210, 3) := dk_180 0 210 (dk_at dksX1_missortsIf_2 19 rfl rfl)
theorem dX1_missortsIf_67 : decode cX1_missortsIf 67 = .ok (.iconst 3, 1) := dk_6 (dk_at dksX1_missortsIf_2 22 rfl rfl)
theorem dX1_missortsIf_68 : decode cX1_missortsIf 68 = .ok (.iaload, 1) := dk_46 (dk_at dksX1_missortsIf_2 23 rfl rfl)
theorem dX1_missortsIf_69 : decode cX1_missortsIf 69 = .ok (.aload_n 0, 1) := dk_42 (dk_at dksX1_missortsIf_3 0 rfl rfl)
theorem dX1_missortsIf_70 : decode cX1_missortsIf 70 = .ok (.getfield 50, 3) := dk_180 0 50 (dk_at dksX1_missortsIf_3 1 rfl rfl)
theorem dX1_missortsIf_73 : decode cX1_missortsIf 73 = .ok (.getfield 210, 3) := dk_180 0 210 (dk_at dksX1_missortsIf_3 4 rfl rfl)
theorem dX1_missortsIf_76 : decode cX1_missortsIf 76 = .ok (.iconst 3, 1) := dk_6 (dk_at dksX1_missortsIf_3 7 rfl rfl)
theorem dX1_missortsIf_77 : decode cX1_missortsIf 77 = .ok (.iaload, 1) := dk_46 (dk_at dksX1_missortsIf_3 8 rfl rfl)
theorem dX1_missortsIf_78 : decode cX1_missortsIf 78 = .ok (.isub, 1) := dk_100 (dk_at dksX1_missortsIf_3 9 rfl rfl)
theorem dX1_missortsIf_79 : decode cX1_missortsIf 79 = .ok (.ireturn, 1) := dk_172 (dk_at dksX1_missortsIf_3 10 rfl rfl)
abbrev cX1_put : ByteArray := prog_1_method_63_code
def yX1_put : MethodName := ⟨RX1, "put", "(II)I"⟩
def dkwX1_put_1 : List UInt8 := [182, 1, 83, 154, 0, 7, 4, 167, 0, 4, 3, 184, 1, 157, 42, 182, 0, 141, 27, 28, 182, 1, 160, 172]
abbrev dktX1_put_1 : List UInt8 := dkwX1_put_1 ++ []
def dkwX1_put_0 : List UInt8 := [42, 27, 182, 1, 16, 78, 28, 133, 9, 20, 1, 155, 184, 0, 91, 184, 0, 206, 42, 180, 0, 50]
abbrev dktX1_put_0 : List UInt8 := dkwX1_put_0 ++ dktX1_put_1
theorem dksX1_put_0 : cX1_put.data.toList.drop 0 = dktX1_put_0 := by decide +kernel
theorem dksX1_put_1 : cX1_put.data.toList.drop 22 = dktX1_put_1 := dk_seg dksX1_put_0 22 rfl rfl
theorem dX1_put_0 : decode cX1_put 0 = .ok (.aload_n 0, 1) := dk_42 (dk_at dksX1_put_0 0 rfl rfl)
theorem dX1_put_1 : decode cX1_put 1 = .ok (.iload_n 1, 1) := dk_27 (dk_at dksX1_put_0 1 rfl rfl)
theorem dX1_put_2 : decode cX1_put 2 = .ok (.invokevirtual 272, 3) := dk_182 1 16 (dk_at dksX1_put_0 2 rfl rfl)
theorem dX1_put_5 : decode cX1_put 5 = .ok (.astore_n 3, 1) := dk_78 (dk_at dksX1_put_0 5 rfl rfl)
theorem dX1_put_6 : decode cX1_put 6 = .ok (.iload_n 2, 1) := dk_28 (dk_at dksX1_put_0 6 rfl rfl)
theorem dX1_put_7 : decode cX1_put 7 = .ok (.i2l, 1) := dk_133 (dk_at dksX1_put_0 7 rfl rfl)
theorem dX1_put_8 : decode cX1_put 8 = .ok (.lconst 0, 1) := dk_9 (dk_at dksX1_put_0 8 rfl rfl)
theorem dX1_put_9 : decode cX1_put 9 = .ok (.ldc2_w 411, 3) := dk_20 1 155 (dk_at dksX1_put_0 9 rfl rfl)
theorem dX1_put_12 : decode cX1_put 12 = .ok (.invokestatic 91, 3) := dk_184 0 91 (dk_at dksX1_put_0 12 rfl rfl)
theorem dX1_put_15 : decode cX1_put 15 = .ok (.invokestatic 206, 3) := dk_184 0 206 (dk_at dksX1_put_0 15 rfl rfl)
theorem dX1_put_18 : decode cX1_put 18 = .ok (.aload_n 0, 1) := dk_42 (dk_at dksX1_put_0 18 rfl rfl)
theorem dX1_put_19 : decode cX1_put 19 = .ok (.getfield 50, 3) := dk_180 0 50 (dk_at dksX1_put_0 19 rfl rfl)
theorem dX1_put_22 : decode cX1_put 22 = .ok (.invokevirtual 339, 3) := dk_182 1 83 (dk_at dksX1_put_1 0 rfl rfl)
theorem dX1_put_25 : decode cX1_put 25 = .ok (.ifCond .ne 7, 3) := dk_154 0 7 (dk_at dksX1_put_1 3 rfl rfl)
theorem dX1_put_28 : decode cX1_put 28 = .ok (.iconst 1, 1) := dk_4 (dk_at dksX1_put_1 6 rfl rfl)
theorem dX1_put_29 : decode cX1_put 29 = .ok (.goto 4, 3) := dk_167 0 4 (dk_at dksX1_put_1 7 rfl rfl)
theorem dX1_put_32 : decode cX1_put 32 = .ok (.iconst 0, 1) := dk_3 (dk_at dksX1_put_1 10 rfl rfl)
theorem dX1_put_33 : decode cX1_put 33 = .ok (.invokestatic 413, 3) := dk_184 1 157 (dk_at dksX1_put_1 11 rfl rfl)
theorem dX1_put_36 : decode cX1_put 36 = .ok (.aload_n 0, 1) := dk_42 (dk_at dksX1_put_1 14 rfl rfl)
theorem dX1_put_37 : decode cX1_put 37 = .ok (.invokevirtual 141, 3) := dk_182 0 141 (dk_at dksX1_put_1 15 rfl rfl)
theorem dX1_put_40 : decode cX1_put 40 = .ok (.iload_n 1, 1) := dk_27 (dk_at dksX1_put_1 18 rfl rfl)
theorem dX1_put_41 : decode cX1_put 41 = .ok (.iload_n 2, 1) := dk_28 (dk_at dksX1_put_1 19 rfl rfl)
theorem dX1_put_42 : decode cX1_put 42 = .ok (.invokevirtual 416, 3) := dk_182 1 160 (dk_at dksX1_put_1 20 rfl rfl)
theorem dX1_put_45 : decode cX1_put 45 = .ok (.ireturn, 1) := dk_172 (dk_at dksX1_put_1 23 rfl rfl)
abbrev cX1_checkState : ByteArray := prog_1_method_4_code
def yX1_checkState : MethodName := ⟨RX1, "checkState", "(Z)V"⟩
def dkwX1_checkState_0 : List UInt8 := [26, 154, 0, 11, 187, 0, 10, 89, 183, 0, 12, 191, 177]
abbrev dktX1_checkState_0 : List UInt8 := dkwX1_checkState_0 ++ []
theorem dksX1_checkState_0 : cX1_checkState.data.toList.drop 0 = dktX1_checkState_0 := by decide +kernel
theorem dX1_checkState_0 : decode cX1_checkState 0 = .ok (.iload_n 0, 1) := dk_26 (dk_at dksX1_checkState_0 0 rfl rfl)
theorem dX1_checkState_1 : decode cX1_checkState 1 = .ok (.ifCond .ne 11, 3) := dk_154 0 11 (dk_at dksX1_checkState_0 1 rfl rfl)
theorem dX1_checkState_4 : decode cX1_checkState 4 = .ok (.new 10, 3) := dk_187 0 10 (dk_at dksX1_checkState_0 4 rfl rfl)
theorem dX1_checkState_7 : decode cX1_checkState 7 = .ok (.dup, 1) := dk_89 (dk_at dksX1_checkState_0 7 rfl rfl)
theorem dX1_checkState_8 : decode cX1_checkState 8 = .ok (.invokespecial 12, 3) := dk_183 0 12 (dk_at dksX1_checkState_0 8 rfl rfl)
theorem dX1_checkState_11 : decode cX1_checkState 11 = .ok (.athrow, 1) := dk_191 (dk_at dksX1_checkState_0 11 rfl rfl)
theorem dX1_checkState_12 : decode cX1_checkState 12 = .ok (.return_, 1) := dk_177 (dk_at dksX1_checkState_0 12 rfl rfl)
abbrev cX1_tick : ByteArray := prog_1_method_64_code
def yX1_tick : MethodName := ⟨RX1, "tick", "(I)I"⟩
def dkwX1_tick_1 : List UInt8 := [163, 0, 7, 4, 167, 0, 4, 3, 184, 1, 157, 42, 182, 0, 141, 27, 182, 1, 104, 172]
abbrev dktX1_tick_1 : List UInt8 := dkwX1_tick_1 ++ []
def dkwX1_tick_0 : List UInt8 := [27, 133, 10, 20, 1, 89, 184, 0, 91, 184, 0, 206, 42, 180, 0, 50, 180, 0, 187, 27, 96, 17, 39, 15]
abbrev dktX1_tick_0 : List UInt8 := dkwX1_tick_0 ++ dktX1_tick_1
theorem dksX1_tick_0 : cX1_tick.data.toList.drop 0 = dktX1_tick_0 := by decide +kernel
theorem dksX1_tick_1 : cX1_tick.data.toList.drop 24 = dktX1_tick_1 := dk_seg dksX1_tick_0 24 rfl rfl
theorem dX1_tick_0 : decode cX1_tick 0 = .ok (.iload_n 1, 1) := dk_27 (dk_at dksX1_tick_0 0 rfl rfl)
theorem dX1_tick_1 : decode cX1_tick 1 = .ok (.i2l, 1) := dk_133 (dk_at dksX1_tick_0 1 rfl rfl)
theorem dX1_tick_2 : decode cX1_tick 2 = .ok (.lconst 1, 1) := dk_10 (dk_at dksX1_tick_0 2 rfl rfl)
theorem dX1_tick_3 : decode cX1_tick 3 = .ok (.ldc2_w 345, 3) := dk_20 1 89 (dk_at dksX1_tick_0 3 rfl rfl)
theorem dX1_tick_6 : decode cX1_tick 6 = .ok (.invokestatic 91, 3) := dk_184 0 91 (dk_at dksX1_tick_0 6 rfl rfl)
theorem dX1_tick_9 : decode cX1_tick 9 = .ok (.invokestatic 206, 3) := dk_184 0 206 (dk_at dksX1_tick_0 9 rfl rfl)
theorem dX1_tick_12 : decode cX1_tick 12 = .ok (.aload_n 0, 1) := dk_42 (dk_at dksX1_tick_0 12 rfl rfl)
theorem dX1_tick_13 : decode cX1_tick 13 = .ok (.getfield 50, 3) := dk_180 0 50 (dk_at dksX1_tick_0 13 rfl rfl)
theorem dX1_tick_16 : decode cX1_tick 16 = .ok (.getfield 187, 3) := dk_180 0 187 (dk_at dksX1_tick_0 16 rfl rfl)
theorem dX1_tick_19 : decode cX1_tick 19 = .ok (.iload_n 1, 1) := dk_27 (dk_at dksX1_tick_0 19 rfl rfl)
theorem dX1_tick_20 : decode cX1_tick 20 = .ok (.iadd, 1) := dk_96 (dk_at dksX1_tick_0 20 rfl rfl)
theorem dX1_tick_21 : decode cX1_tick 21 = .ok (.sipush 9999, 3) := dk_17 39 15 (dk_at dksX1_tick_0 21 rfl rfl)
theorem dX1_tick_24 : decode cX1_tick 24 = .ok (.if_icmp .gt 7, 3) := dk_163 0 7 (dk_at dksX1_tick_1 0 rfl rfl)
theorem dX1_tick_27 : decode cX1_tick 27 = .ok (.iconst 1, 1) := dk_4 (dk_at dksX1_tick_1 3 rfl rfl)
theorem dX1_tick_28 : decode cX1_tick 28 = .ok (.goto 4, 3) := dk_167 0 4 (dk_at dksX1_tick_1 4 rfl rfl)
theorem dX1_tick_31 : decode cX1_tick 31 = .ok (.iconst 0, 1) := dk_3 (dk_at dksX1_tick_1 7 rfl rfl)
theorem dX1_tick_32 : decode cX1_tick 32 = .ok (.invokestatic 413, 3) := dk_184 1 157 (dk_at dksX1_tick_1 8 rfl rfl)
theorem dX1_tick_35 : decode cX1_tick 35 = .ok (.aload_n 0, 1) := dk_42 (dk_at dksX1_tick_1 11 rfl rfl)
theorem dX1_tick_36 : decode cX1_tick 36 = .ok (.invokevirtual 141, 3) := dk_182 0 141 (dk_at dksX1_tick_1 12 rfl rfl)
theorem dX1_tick_39 : decode cX1_tick 39 = .ok (.iload_n 1, 1) := dk_27 (dk_at dksX1_tick_1 15 rfl rfl)
theorem dX1_tick_40 : decode cX1_tick 40 = .ok (.invokevirtual 360, 3) := dk_182 1 104 (dk_at dksX1_tick_1 16 rfl rfl)
theorem dX1_tick_43 : decode cX1_tick 43 = .ok (.ireturn, 1) := dk_172 (dk_at dksX1_tick_1 19 rfl rfl)
abbrev cX1_slip : ByteArray := prog_1_method_65_code
def yX1_slip : MethodName := ⟨RX1, "slip", "(I)I"⟩
def dkwX1_slip_1 : List UInt8 := [182, 0, 141, 77, 44, 44, 27, 182, 0, 157, 182, 1, 163, 172]
abbrev dktX1_slip_1 : List UInt8 := dkwX1_slip_1 ++ []
def dkwX1_slip_0 : List UInt8 := [42, 180, 0, 50, 42, 27, 182, 0, 249, 182, 1, 86, 154, 0, 7, 4, 167, 0, 4, 3, 184, 1, 157, 42]
abbrev dktX1_slip_0 : List UInt8 := dkwX1_slip_0 ++ dktX1_slip_1
theorem dksX1_slip_0 : cX1_slip.data.toList.drop 0 = dktX1_slip_0 := by decide +kernel
theorem dksX1_slip_1 : cX1_slip.data.toList.drop 24 = dktX1_slip_1 := dk_seg dksX1_slip_0 24 rfl rfl
theorem dX1_slip_0 : decode cX1_slip 0 = .ok (.aload_n 0, 1) := dk_42 (dk_at dksX1_slip_0 0 rfl rfl)
theorem dX1_slip_1 : decode cX1_slip 1 = .ok (.getfield 50, 3) := dk_180 0 50 (dk_at dksX1_slip_0 1 rfl rfl)
theorem dX1_slip_4 : decode cX1_slip 4 = .ok (.aload_n 0, 1) := dk_42 (dk_at dksX1_slip_0 4 rfl rfl)
theorem dX1_slip_5 : decode cX1_slip 5 = .ok (.iload_n 1, 1) := dk_27 (dk_at dksX1_slip_0 5 rfl rfl)
theorem dX1_slip_6 : decode cX1_slip 6 = .ok (.invokevirtual 249, 3) := dk_182 0 249 (dk_at dksX1_slip_0 6 rfl rfl)
theorem dX1_slip_9 : decode cX1_slip 9 = .ok (.invokevirtual 342, 3) := dk_182 1 86 (dk_at dksX1_slip_0 9 rfl rfl)
theorem dX1_slip_12 : decode cX1_slip 12 = .ok (.ifCond .ne 7, 3) := dk_154 0 7 (dk_at dksX1_slip_0 12 rfl rfl)
theorem dX1_slip_15 : decode cX1_slip 15 = .ok (.iconst 1, 1) := dk_4 (dk_at dksX1_slip_0 15 rfl rfl)
theorem dX1_slip_16 : decode cX1_slip 16 = .ok (.goto 4, 3) := dk_167 0 4 (dk_at dksX1_slip_0 16 rfl rfl)
theorem dX1_slip_19 : decode cX1_slip 19 = .ok (.iconst 0, 1) := dk_3 (dk_at dksX1_slip_0 19 rfl rfl)
theorem dX1_slip_20 : decode cX1_slip 20 = .ok (.invokestatic 413, 3) := dk_184 1 157 (dk_at dksX1_slip_0 20 rfl rfl)
theorem dX1_slip_23 : decode cX1_slip 23 = .ok (.aload_n 0, 1) := dk_42 (dk_at dksX1_slip_0 23 rfl rfl)
theorem dX1_slip_24 : decode cX1_slip 24 = .ok (.invokevirtual 141, 3) := dk_182 0 141 (dk_at dksX1_slip_1 0 rfl rfl)
theorem dX1_slip_27 : decode cX1_slip 27 = .ok (.astore_n 2, 1) := dk_77 (dk_at dksX1_slip_1 3 rfl rfl)
theorem dX1_slip_28 : decode cX1_slip 28 = .ok (.aload_n 2, 1) := dk_44 (dk_at dksX1_slip_1 4 rfl rfl)
theorem dX1_slip_29 : decode cX1_slip 29 = .ok (.aload_n 2, 1) := dk_44 (dk_at dksX1_slip_1 5 rfl rfl)
theorem dX1_slip_30 : decode cX1_slip 30 = .ok (.iload_n 1, 1) := dk_27 (dk_at dksX1_slip_1 6 rfl rfl)
theorem dX1_slip_31 : decode cX1_slip 31 = .ok (.invokevirtual 157, 3) := dk_182 0 157 (dk_at dksX1_slip_1 7 rfl rfl)
theorem dX1_slip_34 : decode cX1_slip 34 = .ok (.invokevirtual 419, 3) := dk_182 1 163 (dk_at dksX1_slip_1 10 rfl rfl)
theorem dX1_slip_37 : decode cX1_slip 37 = .ok (.ireturn, 1) := dk_172 (dk_at dksX1_slip_1 13 rfl rfl)
abbrev cX1_empty : ByteArray := prog_1_method_66_code
def yX1_empty : MethodName := ⟨RX1, "empty", "(I)I"⟩
def dkwX1_empty_0 : List UInt8 := [42, 27, 182, 1, 16, 77, 42, 182, 0, 141, 78, 45, 45, 27, 182, 0, 217, 182, 1, 110, 172]
abbrev dktX1_empty_0 : List UInt8 := dkwX1_empty_0 ++ []
theorem dksX1_empty_0 : cX1_empty.data.toList.drop 0 = dktX1_empty_0 := by decide +kernel
theorem dX1_empty_0 : decode cX1_empty 0 = .ok (.aload_n 0, 1) := dk_42 (dk_at dksX1_empty_0 0 rfl rfl)
theorem dX1_empty_1 : decode cX1_empty 1 = .ok (.iload_n 1, 1) := dk_27 (dk_at dksX1_empty_0 1 rfl rfl)
theorem dX1_empty_2 : decode cX1_empty 2 = .ok (.invokevirtual 272, 3) := dk_182 1 16 (dk_at dksX1_empty_0 2 rfl rfl)
theorem dX1_empty_5 : decode cX1_empty 5 = .ok (.astore_n 2, 1) := dk_77 (dk_at dksX1_empty_0 5 rfl rfl)
theorem dX1_empty_6 : decode cX1_empty 6 = .ok (.aload_n 0, 1) := dk_42 (dk_at dksX1_empty_0 6 rfl rfl)
theorem dX1_empty_7 : decode cX1_empty 7 = .ok (.invokevirtual 141, 3) := dk_182 0 141 (dk_at dksX1_empty_0 7 rfl rfl)
theorem dX1_empty_10 : decode cX1_empty 10 = .ok (.astore_n 3, 1) := dk_78 (dk_at dksX1_empty_0 10 rfl rfl)
theorem dX1_empty_11 : decode cX1_empty 11 = .ok (.aload_n 3, 1) := dk_45 (dk_at dksX1_empty_0 11 rfl rfl)
theorem dX1_empty_12 : decode cX1_empty 12 = .ok (.aload_n 3, 1) := dk_45 (dk_at dksX1_empty_0 12 rfl rfl)
theorem dX1_empty_13 : decode cX1_empty 13 = .ok (.iload_n 1, 1) := dk_27 (dk_at dksX1_empty_0 13 rfl rfl)
theorem dX1_empty_14 : decode cX1_empty 14 = .ok (.invokevirtual 217, 3) := dk_182 0 217 (dk_at dksX1_empty_0 14 rfl rfl)
theorem dX1_empty_17 : decode cX1_empty 17 = .ok (.invokevirtual 366, 3) := dk_182 1 110 (dk_at dksX1_empty_0 17 rfl rfl)
theorem dX1_empty_20 : decode cX1_empty 20 = .ok (.ireturn, 1) := dk_172 (dk_at dksX1_empty_0 20 rfl rfl)
abbrev cX1_shut : ByteArray := prog_1_method_67_code
def yX1_shut : MethodName := ⟨RX1, "shut", "(IZ)I"⟩
def dkwX1_shut_1 : List UInt8 := [172]
abbrev dktX1_shut_1 : List UInt8 := dkwX1_shut_1 ++ []
def dkwX1_shut_0 : List UInt8 := [42, 27, 182, 1, 16, 78, 42, 182, 0, 141, 58, 4, 25, 4, 25, 4, 27, 182, 0, 217, 28, 182, 1, 114]
abbrev dktX1_shut_0 : List UInt8 := dkwX1_shut_0 ++ dktX1_shut_1
theorem dksX1_shut_0 : cX1_shut.data.toList.drop 0 = dktX1_shut_0 := by decide +kernel
theorem dksX1_shut_1 : cX1_shut.data.toList.drop 24 = dktX1_shut_1 := dk_seg dksX1_shut_0 24 rfl rfl
theorem dX1_shut_0 : decode cX1_shut 0 = .ok (.aload_n 0, 1) := dk_42 (dk_at dksX1_shut_0 0 rfl rfl)
theorem dX1_shut_1 : decode cX1_shut 1 = .ok (.iload_n 1, 1) := dk_27 (dk_at dksX1_shut_0 1 rfl rfl)
theorem dX1_shut_2 : decode cX1_shut 2 = .ok (.invokevirtual 272, 3) := dk_182 1 16 (dk_at dksX1_shut_0 2 rfl rfl)
theorem dX1_shut_5 : decode cX1_shut 5 = .ok (.astore_n 3, 1) := dk_78 (dk_at dksX1_shut_0 5 rfl rfl)
theorem dX1_shut_6 : decode cX1_shut 6 = .ok (.aload_n 0, 1) := dk_42 (dk_at dksX1_shut_0 6 rfl rfl)
theorem dX1_shut_7 : decode cX1_shut 7 = .ok (.invokevirtual 141, 3) := dk_182 0 141 (dk_at dksX1_shut_0 7 rfl rfl)
theorem dX1_shut_10 : decode cX1_shut 10 = .ok (.astore 4, 2) := dk_58 4 (dk_at dksX1_shut_0 10 rfl rfl)
theorem dX1_shut_12 : decode cX1_shut 12 = .ok (.aload 4, 2) := dk_25 4 (dk_at dksX1_shut_0 12 rfl rfl)
theorem dX1_shut_14 : decode cX1_shut 14 = .ok (.aload 4, 2) := dk_25 4 (dk_at dksX1_shut_0 14 rfl rfl)
theorem dX1_shut_16 : decode cX1_shut 16 = .ok (.iload_n 1, 1) := dk_27 (dk_at dksX1_shut_0 16 rfl rfl)
theorem dX1_shut_17 : decode cX1_shut 17 = .ok (.invokevirtual 217, 3) := dk_182 0 217 (dk_at dksX1_shut_0 17 rfl rfl)
theorem dX1_shut_20 : decode cX1_shut 20 = .ok (.iload_n 2, 1) := dk_28 (dk_at dksX1_shut_0 20 rfl rfl)
theorem dX1_shut_21 : decode cX1_shut 21 = .ok (.invokevirtual 370, 3) := dk_182 1 114 (dk_at dksX1_shut_0 21 rfl rfl)
theorem dX1_shut_24 : decode cX1_shut 24 = .ok (.ireturn, 1) := dk_172 (dk_at dksX1_shut_1 0 rfl rfl)
abbrev cX1_set : ByteArray := prog_1_method_68_code
def yX1_set : MethodName := ⟨RX1, "set", "(II)I"⟩
def dkwX1_set_2 : List UInt8 := [20, 1, 121, 184, 0, 91, 184, 0, 206, 42, 182, 0, 141, 27, 28, 182, 1, 123, 172]
abbrev dktX1_set_2 : List UInt8 := dkwX1_set_2 ++ []
def dkwX1_set_1 : List UInt8 := [184, 0, 214, 27, 2, 160, 0, 15, 28, 133, 10, 20, 1, 168, 184, 0, 91, 167, 0, 12, 28, 133, 9]
abbrev dktX1_set_1 : List UInt8 := dkwX1_set_1 ++ dktX1_set_2
def dkwX1_set_0 : List UInt8 := [27, 133, 20, 1, 166, 42, 180, 0, 50, 180, 0, 69, 185, 0, 123, 1, 0, 4, 100, 133, 184, 0, 91]
abbrev dktX1_set_0 : List UInt8 := dkwX1_set_0 ++ dktX1_set_1
theorem dksX1_set_0 : cX1_set.data.toList.drop 0 = dktX1_set_0 := by decide +kernel
theorem dksX1_set_1 : cX1_set.data.toList.drop 23 = dktX1_set_1 := dk_seg dksX1_set_0 23 rfl rfl
theorem dksX1_set_2 : cX1_set.data.toList.drop 46 = dktX1_set_2 := dk_seg dksX1_set_1 23 rfl rfl
theorem dX1_set_0 : decode cX1_set 0 = .ok (.iload_n 1, 1) := dk_27 (dk_at dksX1_set_0 0 rfl rfl)
theorem dX1_set_1 : decode cX1_set 1 = .ok (.i2l, 1) := dk_133 (dk_at dksX1_set_0 1 rfl rfl)
theorem dX1_set_2 : decode cX1_set 2 = .ok (.ldc2_w 422, 3) := dk_20 1 166 (dk_at dksX1_set_0 2 rfl rfl)
theorem dX1_set_5 : decode cX1_set 5 = .ok (.aload_n 0, 1) := dk_42 (dk_at dksX1_set_0 5 rfl rfl)
theorem dX1_set_6 : decode cX1_set 6 = .ok (.getfield 50, 3) := dk_180 0 50 (dk_at dksX1_set_0 6 rfl rfl)
theorem dX1_set_9 : decode cX1_set 9 = .ok (.getfield 69, 3) := dk_180 0 69 (dk_at dksX1_set_0 9 rfl rfl)
theorem dX1_set_12 : decode cX1_set 12 = .ok (.invokeinterface 123 1, 5) := by decide +kernel
theorem dX1_set_17 : decode cX1_set 17 = .ok (.iconst 1, 1) := dk_4 (dk_at dksX1_set_0 17 rfl rfl)
theorem dX1_set_18 : decode cX1_set 18 = .ok (.isub, 1) := dk_100 (dk_at dksX1_set_0 18 rfl rfl)
theorem dX1_set_19 : decode cX1_set 19 = .ok (.i2l, 1) := dk_133 (dk_at dksX1_set_0 19 rfl rfl)
theorem dX1_set_20 : decode cX1_set 20 = .ok (.invokestatic 91, 3) := dk_184 0 91 (dk_at dksX1_set_0 20 rfl rfl)
theorem dX1_set_23 : decode cX1_set 23 = .ok (.invokestatic 214, 3) := dk_184 0 214 (dk_at dksX1_set_1 0 rfl rfl)
theorem dX1_set_26 : decode cX1_set 26 = .ok (.iload_n 1, 1) := dk_27 (dk_at dksX1_set_1 3 rfl rfl)
theorem dX1_set_27 : decode cX1_set 27 = .ok (.iconst (-1), 1) := dk_2 (dk_at dksX1_set_1 4 rfl rfl)
theorem dX1_set_28 : decode cX1_set 28 = .ok (.if_icmp .ne 15, 3) := dk_160 0 15 (dk_at dksX1_set_1 5 rfl rfl)
theorem dX1_set_31 : decode cX1_set 31 = .ok (.iload_n 2, 1) := dk_28 (dk_at dksX1_set_1 8 rfl rfl)
theorem dX1_set_32 : decode cX1_set 32 = .ok (.i2l, 1) := dk_133 (dk_at dksX1_set_1 9 rfl rfl)
theorem dX1_set_33 : decode cX1_set 33 = .ok (.lconst 1, 1) := dk_10 (dk_at dksX1_set_1 10 rfl rfl)
theorem dX1_set_34 : decode cX1_set 34 = .ok (.ldc2_w 424, 3) := dk_20 1 168 (dk_at dksX1_set_1 11 rfl rfl)
theorem dX1_set_37 : decode cX1_set 37 = .ok (.invokestatic 91, 3) := dk_184 0 91 (dk_at dksX1_set_1 14 rfl rfl)
theorem dX1_set_40 : decode cX1_set 40 = .ok (.goto 12, 3) := dk_167 0 12 (dk_at dksX1_set_1 17 rfl rfl)
theorem dX1_set_43 : decode cX1_set 43 = .ok (.iload_n 2, 1) := dk_28 (dk_at dksX1_set_1 20 rfl rfl)
theorem dX1_set_44 : decode cX1_set 44 = .ok (.i2l, 1) := dk_133 (dk_at dksX1_set_1 21 rfl rfl)
theorem dX1_set_45 : decode cX1_set 45 = .ok (.lconst 0, 1) := dk_9 (dk_at dksX1_set_1 22 rfl rfl)
theorem dX1_set_46 : decode cX1_set 46 = .ok (.ldc2_w 377, 3) := dk_20 1 121 (dk_at dksX1_set_2 0 rfl rfl)
theorem dX1_set_49 : decode cX1_set 49 = .ok (.invokestatic 91, 3) := dk_184 0 91 (dk_at dksX1_set_2 3 rfl rfl)
theorem dX1_set_52 : decode cX1_set 52 = .ok (.invokestatic 206, 3) := dk_184 0 206 (dk_at dksX1_set_2 6 rfl rfl)
theorem dX1_set_55 : decode cX1_set 55 = .ok (.aload_n 0, 1) := dk_42 (dk_at dksX1_set_2 9 rfl rfl)
theorem dX1_set_56 : decode cX1_set 56 = .ok (.invokevirtual 141, 3) := dk_182 0 141 (dk_at dksX1_set_2 10 rfl rfl)
theorem dX1_set_59 : decode cX1_set 59 = .ok (.iload_n 1, 1) := dk_27 (dk_at dksX1_set_2 13 rfl rfl)
theorem dX1_set_60 : decode cX1_set 60 = .ok (.iload_n 2, 1) := dk_28 (dk_at dksX1_set_2 14 rfl rfl)
theorem dX1_set_61 : decode cX1_set 61 = .ok (.invokevirtual 379, 3) := dk_182 1 123 (dk_at dksX1_set_2 15 rfl rfl)
theorem dX1_set_64 : decode cX1_set 64 = .ok (.ireturn, 1) := dk_172 (dk_at dksX1_set_2 18 rfl rfl)
abbrev cX1_undo : ByteArray := prog_1_method_69_code
def yX1_undo : MethodName := ⟨RX1, "undo", "()I"⟩
def dkwX1_undo_1 : List UInt8 := [182, 1, 176, 192, 0, 55, 181, 0, 50, 42, 180, 0, 39, 182, 0, 203, 172]
abbrev dktX1_undo_1 : List UInt8 := dkwX1_undo_1 ++ []
def dkwX1_undo_0 : List UInt8 := [42, 180, 0, 39, 182, 1, 170, 154, 0, 7, 4, 167, 0, 4, 3, 184, 1, 173, 42, 42, 180, 0, 39]
abbrev dktX1_undo_0 : List UInt8 := dkwX1_undo_0 ++ dktX1_undo_1
theorem dksX1_undo_0 : cX1_undo.data.toList.drop 0 = dktX1_undo_0 := by decide +kernel
theorem dksX1_undo_1 : cX1_undo.data.toList.drop 23 = dktX1_undo_1 := dk_seg dksX1_undo_0 23 rfl rfl
theorem dX1_undo_0 : decode cX1_undo 0 = .ok (.aload_n 0, 1) := dk_42 (dk_at dksX1_undo_0 0 rfl rfl)
theorem dX1_undo_1 : decode cX1_undo 1 = .ok (.getfield 39, 3) := dk_180 0 39 (dk_at dksX1_undo_0 1 rfl rfl)
theorem dX1_undo_4 : decode cX1_undo 4 = .ok (.invokevirtual 426, 3) := dk_182 1 170 (dk_at dksX1_undo_0 4 rfl rfl)
theorem dX1_undo_7 : decode cX1_undo 7 = .ok (.ifCond .ne 7, 3) := dk_154 0 7 (dk_at dksX1_undo_0 7 rfl rfl)
theorem dX1_undo_10 : decode cX1_undo 10 = .ok (.iconst 1, 1) := dk_4 (dk_at dksX1_undo_0 10 rfl rfl)
theorem dX1_undo_11 : decode cX1_undo 11 = .ok (.goto 4, 3) := dk_167 0 4 (dk_at dksX1_undo_0 11 rfl rfl)
theorem dX1_undo_14 : decode cX1_undo 14 = .ok (.iconst 0, 1) := dk_3 (dk_at dksX1_undo_0 14 rfl rfl)
theorem dX1_undo_15 : decode cX1_undo 15 = .ok (.invokestatic 429, 3) := dk_184 1 173 (dk_at dksX1_undo_0 15 rfl rfl)
theorem dX1_undo_18 : decode cX1_undo 18 = .ok (.aload_n 0, 1) := dk_42 (dk_at dksX1_undo_0 18 rfl rfl)
theorem dX1_undo_19 : decode cX1_undo 19 = .ok (.aload_n 0, 1) := dk_42 (dk_at dksX1_undo_0 19 rfl rfl)
theorem dX1_undo_20 : decode cX1_undo 20 = .ok (.getfield 39, 3) := dk_180 0 39 (dk_at dksX1_undo_0 20 rfl rfl)
theorem dX1_undo_23 : decode cX1_undo 23 = .ok (.invokevirtual 432, 3) := dk_182 1 176 (dk_at dksX1_undo_1 0 rfl rfl)
theorem dX1_undo_26 : decode cX1_undo 26 = .ok (.checkcast 55, 3) := dk_192 0 55 (dk_at dksX1_undo_1 3 rfl rfl)
theorem dX1_undo_29 : decode cX1_undo 29 = .ok (.putfield 50, 3) := dk_181 0 50 (dk_at dksX1_undo_1 6 rfl rfl)
theorem dX1_undo_32 : decode cX1_undo 32 = .ok (.aload_n 0, 1) := dk_42 (dk_at dksX1_undo_1 9 rfl rfl)
theorem dX1_undo_33 : decode cX1_undo 33 = .ok (.getfield 39, 3) := dk_180 0 39 (dk_at dksX1_undo_1 10 rfl rfl)
theorem dX1_undo_36 : decode cX1_undo 36 = .ok (.invokevirtual 203, 3) := dk_182 0 203 (dk_at dksX1_undo_1 13 rfl rfl)
theorem dX1_undo_39 : decode cX1_undo 39 = .ok (.ireturn, 1) := dk_172 (dk_at dksX1_undo_1 16 rfl rfl)
abbrev cX1_checkElement : ByteArray := prog_1_method_5_code
def yX1_checkElement : MethodName := ⟨RX1, "checkElement", "(Z)V"⟩
def dkwX1_checkElement_0 : List UInt8 := [26, 154, 0, 11, 187, 0, 13, 89, 183, 0, 15, 191, 177]
abbrev dktX1_checkElement_0 : List UInt8 := dkwX1_checkElement_0 ++ []
theorem dksX1_checkElement_0 : cX1_checkElement.data.toList.drop 0 = dktX1_checkElement_0 := by decide +kernel
theorem dX1_checkElement_0 : decode cX1_checkElement 0 = .ok (.iload_n 0, 1) := dk_26 (dk_at dksX1_checkElement_0 0 rfl rfl)
theorem dX1_checkElement_1 : decode cX1_checkElement 1 = .ok (.ifCond .ne 11, 3) := dk_154 0 11 (dk_at dksX1_checkElement_0 1 rfl rfl)
theorem dX1_checkElement_4 : decode cX1_checkElement 4 = .ok (.new 13, 3) := dk_187 0 13 (dk_at dksX1_checkElement_0 4 rfl rfl)
theorem dX1_checkElement_7 : decode cX1_checkElement 7 = .ok (.dup, 1) := dk_89 (dk_at dksX1_checkElement_0 7 rfl rfl)
theorem dX1_checkElement_8 : decode cX1_checkElement 8 = .ok (.invokespecial 15, 3) := dk_183 0 15 (dk_at dksX1_checkElement_0 8 rfl rfl)
theorem dX1_checkElement_11 : decode cX1_checkElement 11 = .ok (.athrow, 1) := dk_191 (dk_at dksX1_checkElement_0 11 rfl rfl)
theorem dX1_checkElement_12 : decode cX1_checkElement 12 = .ok (.return_, 1) := dk_177 (dk_at dksX1_checkElement_0 12 rfl rfl)
abbrev cX1_restoreState : ByteArray := prog_1_method_75_code
def yX1_restoreState : MethodName := ⟨RX1, "restoreState", "()I"⟩
def dkwX1_restoreState_1 : List UInt8 := [181, 0, 50, 42, 180, 0, 39, 182, 0, 117, 42, 180, 0, 50, 180, 0, 187, 172]
abbrev dktX1_restoreState_1 : List UInt8 := dkwX1_restoreState_1 ++ []
def dkwX1_restoreState_0 : List UInt8 := [42, 180, 0, 120, 198, 0, 7, 4, 167, 0, 4, 3, 184, 1, 173, 42, 42, 180, 0, 120, 182, 0, 54]
abbrev dktX1_restoreState_0 : List UInt8 := dkwX1_restoreState_0 ++ dktX1_restoreState_1
theorem dksX1_restoreState_0 : cX1_restoreState.data.toList.drop 0 = dktX1_restoreState_0 := by decide +kernel
theorem dksX1_restoreState_1 : cX1_restoreState.data.toList.drop 23 = dktX1_restoreState_1 := dk_seg dksX1_restoreState_0 23 rfl rfl
theorem dX1_restoreState_0 : decode cX1_restoreState 0 = .ok (.aload_n 0, 1) := dk_42 (dk_at dksX1_restoreState_0 0 rfl rfl)
theorem dX1_restoreState_1 : decode cX1_restoreState 1 = .ok (.getfield 120, 3) := dk_180 0 120 (dk_at dksX1_restoreState_0 1 rfl rfl)
theorem dX1_restoreState_4 : decode cX1_restoreState 4 = .ok (.ifnull 7, 3) := dk_198 0 7 (dk_at dksX1_restoreState_0 4 rfl rfl)
theorem dX1_restoreState_7 : decode cX1_restoreState 7 = .ok (.iconst 1, 1) := dk_4 (dk_at dksX1_restoreState_0 7 rfl rfl)
theorem dX1_restoreState_8 : decode cX1_restoreState 8 = .ok (.goto 4, 3) := dk_167 0 4 (dk_at dksX1_restoreState_0 8 rfl rfl)
theorem dX1_restoreState_11 : decode cX1_restoreState 11 = .ok (.iconst 0, 1) := dk_3 (dk_at dksX1_restoreState_0 11 rfl rfl)
theorem dX1_restoreState_12 : decode cX1_restoreState 12 = .ok (.invokestatic 429, 3) := dk_184 1 173 (dk_at dksX1_restoreState_0 12 rfl rfl)
theorem dX1_restoreState_15 : decode cX1_restoreState 15 = .ok (.aload_n 0, 1) := dk_42 (dk_at dksX1_restoreState_0 15 rfl rfl)
theorem dX1_restoreState_16 : decode cX1_restoreState 16 = .ok (.aload_n 0, 1) := dk_42 (dk_at dksX1_restoreState_0 16 rfl rfl)
theorem dX1_restoreState_17 : decode cX1_restoreState 17 = .ok (.getfield 120, 3) := dk_180 0 120 (dk_at dksX1_restoreState_0 17 rfl rfl)
theorem dX1_restoreState_20 : decode cX1_restoreState 20 = .ok (.invokevirtual 54, 3) := dk_182 0 54 (dk_at dksX1_restoreState_0 20 rfl rfl)
theorem dX1_restoreState_23 : decode cX1_restoreState 23 = .ok (.putfield 50, 3) := dk_181 0 50 (dk_at dksX1_restoreState_1 0 rfl rfl)
theorem dX1_restoreState_26 : decode cX1_restoreState 26 = .ok (.aload_n 0, 1) := dk_42 (dk_at dksX1_restoreState_1 3 rfl rfl)
theorem dX1_restoreState_27 : decode cX1_restoreState 27 = .ok (.getfield 39, 3) := dk_180 0 39 (dk_at dksX1_restoreState_1 4 rfl rfl)
theorem dX1_restoreState_30 : decode cX1_restoreState 30 = .ok (.invokevirtual 117, 3) := dk_182 0 117 (dk_at dksX1_restoreState_1 7 rfl rfl)
theorem dX1_restoreState_33 : decode cX1_restoreState 33 = .ok (.aload_n 0, 1) := dk_42 (dk_at dksX1_restoreState_1 10 rfl rfl)
theorem dX1_restoreState_34 : decode cX1_restoreState 34 = .ok (.getfield 50, 3) := dk_180 0 50 (dk_at dksX1_restoreState_1 11 rfl rfl)
theorem dX1_restoreState_37 : decode cX1_restoreState 37 = .ok (.getfield 187, 3) := dk_180 0 187 (dk_at dksX1_restoreState_1 14 rfl rfl)
theorem dX1_restoreState_40 : decode cX1_restoreState 40 = .ok (.ireturn, 1) := dk_172 (dk_at dksX1_restoreState_1 17 rfl rfl)
theorem q138 : (Jvm.Cond.initialized "SortingLoop") ∈ lw_all := lw_g (lw_at lw_m1 1 rfl) rfl
theorem q195 : (Jvm.Cond.instantiable "SortingLoop" (9 : Nat)) ∈ lw_all := lw_g (lw_at lw_m1 58 rfl) rfl
theorem q197 : (Jvm.Cond.instanceMethod ({ cls := "SortingLoop", name := "<init>", desc := "()V" } : Jvm.MethodName)) ∈ lw_all := lw_g (lw_at lw_m1 60 rfl) rfl
theorem q198 : (Jvm.Cond.code ({ cls := "SortingLoop", name := "<init>", desc := "()V" } : Jvm.MethodName) prog_1_method_7_code (1 : Nat) (Option.none : Option Jvm.ClassFile.FieldType)) ∈ lw_all := lw_g (lw_at lw_m1 61 rfl) rfl
theorem q199 : (Jvm.Cond.methodLink "SortingLoop" (16 : Nat) ({ cls := "SortingLoop", name := "first", desc := "()LSortingLoop$Loop;" } : Jvm.MethodName)) ∈ lw_all := lw_g (lw_at lw_m1 62 rfl) rfl
theorem q200 : (Jvm.Cond.static ({ cls := "SortingLoop", name := "first", desc := "()LSortingLoop$Loop;" } : Jvm.MethodName)) ∈ lw_all := lw_g (lw_at lw_m1 63 rfl) rfl
theorem q201 : (Jvm.Cond.code ({ cls := "SortingLoop", name := "first", desc := "()LSortingLoop$Loop;" } : Jvm.MethodName) prog_1_method_9_code (1 : Nat) (Option.some (Jvm.ClassFile.FieldType.object "SortingLoop$Loop"))) ∈ lw_all := lw_g (lw_at lw_m1 64 rfl) rfl
theorem q202 : (Jvm.Cond.classLink "SortingLoop" (55 : Nat) "SortingLoop$Loop") ∈ lw_all := lw_g (lw_at lw_m1 65 rfl) rfl
theorem q204 : (Jvm.Cond.methodLink "SortingLoop" (62 : Nat) ({ cls := "SortingLoop$Loop", name := "<init>", desc := "(II)V" } : Jvm.MethodName)) ∈ lw_all := lw_g (lw_at lw_m1 67 rfl) rfl
theorem q606 : (Jvm.Cond.selects "SortingLoop" ({ cls := "java/lang/Object", name := "getClass", desc := "()Ljava/lang/Class;" } : Jvm.MethodName) ({ cls := "java/lang/Object", name := "getClass", desc := "()Ljava/lang/Class;" } : Jvm.MethodName)) ∈ lw_all := lw_g (lw_at lw_m2 229 rfl) rfl
theorem q686 : (Jvm.Cond.fieldLinkNest "SortingLoop" (178 : Nat) "SortingLoop$Loop" "cells" "I" "SortingLoop") ∈ lw_tbl := lw_at lw_m3 69 rfl
theorem q688 : (Jvm.Cond.fieldLinkNest "SortingLoop" (181 : Nat) "SortingLoop$Loop" "in" "I" "SortingLoop") ∈ lw_tbl := lw_at lw_m3 71 rfl
theorem q691 : (Jvm.Cond.fieldLinkNest "SortingLoop" (65 : Nat) "SortingLoop$Loop" "scanners" "[Z" "SortingLoop") ∈ lw_tbl := lw_at lw_m3 74 rfl
theorem q695 : (Jvm.Cond.fieldLinkNest "SortingLoop" (69 : Nat) "SortingLoop$Loop" "chutes" "Ljava/util/List;" "SortingLoop") ∈ lw_tbl := lw_at lw_m3 78 rfl
theorem q698 : (Jvm.Cond.fieldLinkNest "SortingLoop" (154 : Nat) "SortingLoop$Loop" "parcels" "Ljava/util/List;" "SortingLoop") ∈ lw_tbl := lw_at lw_m3 81 rfl
theorem q700 : (Jvm.Cond.fieldLinkNest "SortingLoop" (227 : Nat) "SortingLoop$Loop" "ring" "LSortingLoop$Places;" "SortingLoop") ∈ lw_tbl := lw_at lw_m3 83 rfl
theorem q702 : (Jvm.Cond.fieldLinkNest "SortingLoop" (210 : Nat) "SortingLoop$Loop" "accounts" "[I" "SortingLoop") ∈ lw_tbl := lw_at lw_m3 85 rfl
theorem q705 : (Jvm.Cond.fieldLinkNest "SortingLoop" (187 : Nat) "SortingLoop$Loop" "tick" "I" "SortingLoop") ∈ lw_tbl := lw_at lw_m3 88 rfl
theorem q708 : (Jvm.Cond.fieldLinkNest "SortingLoop" (190 : Nat) "SortingLoop$Loop" "rounds" "I" "SortingLoop") ∈ lw_tbl := lw_at lw_m3 91 rfl
theorem q728 : (Jvm.Cond.classLink "SortingLoop" (73 : Nat) "SortingLoop$Chute") ∈ lw_all := lw_g (lw_at lw_m3 111 rfl) rfl
theorem q730 : (Jvm.Cond.methodLink "SortingLoop" (75 : Nat) ({ cls := "SortingLoop$Chute", name := "<init>", desc := "(IIIII)V" } : Jvm.MethodName)) ∈ lw_all := lw_g (lw_at lw_m3 113 rfl) rfl
theorem q759 : (Jvm.Cond.fieldLinkNest "SortingLoop" (274 : Nat) "SortingLoop$Chute" "cell" "I" "SortingLoop") ∈ lw_tbl := lw_at lw_m3 142 rfl
theorem q761 : (Jvm.Cond.fieldLinkNest "SortingLoop" (275 : Nat) "SortingLoop$Chute" "capacity" "I" "SortingLoop") ∈ lw_tbl := lw_at lw_m3 144 rfl
theorem q764 : (Jvm.Cond.fieldLinkNest "SortingLoop" (281 : Nat) "SortingLoop$Chute" "reset" "I" "SortingLoop") ∈ lw_tbl := lw_at lw_m3 147 rfl
theorem q767 : (Jvm.Cond.fieldLinkNest "SortingLoop" (291 : Nat) "SortingLoop$Chute" "held" "Ljava/util/List;" "SortingLoop") ∈ lw_tbl := lw_at lw_m3 150 rfl
theorem q770 : (Jvm.Cond.fieldLinkNest "SortingLoop" (278 : Nat) "SortingLoop$Chute" "window" "I" "SortingLoop") ∈ lw_tbl := lw_at lw_m3 153 rfl
theorem q772 : (Jvm.Cond.fieldLinkNest "SortingLoop" (284 : Nat) "SortingLoop$Chute" "rest" "I" "SortingLoop") ∈ lw_tbl := lw_at lw_m3 155 rfl
theorem q774 : (Jvm.Cond.fieldLinkNest "SortingLoop" (297 : Nat) "SortingLoop$Chute" "got" "I" "SortingLoop") ∈ lw_tbl := lw_at lw_m3 157 rfl
theorem q777 : (Jvm.Cond.fieldLinkNest "SortingLoop" (287 : Nat) "SortingLoop$Chute" "open" "Z" "SortingLoop") ∈ lw_tbl := lw_at lw_m3 160 rfl
theorem q797 : (Jvm.Cond.interfaceEntry "SortingLoop" (78 : Nat)) ∈ lw_tbl := lw_at lw_m3 180 rfl
theorem q798 : (Jvm.Cond.methodLink "SortingLoop" (78 : Nat) ({ cls := "java/util/List", name := "add", desc := "(Ljava/lang/Object;)Z" } : Jvm.MethodName)) ∈ lw_all := lw_g (lw_at lw_m3 181 rfl) rfl
theorem q799 : (Jvm.Cond.methodLink "SortingLoop" (22 : Nat) ({ cls := "SortingLoop", name := "<init>", desc := "(LSortingLoop$Loop;)V" } : Jvm.MethodName)) ∈ lw_all := lw_g (lw_at lw_m3 182 rfl) rfl
theorem q800 : (Jvm.Cond.instanceMethod ({ cls := "SortingLoop", name := "<init>", desc := "(LSortingLoop$Loop;)V" } : Jvm.MethodName)) ∈ lw_all := lw_g (lw_at lw_m3 183 rfl) rfl
theorem q801 : (Jvm.Cond.code ({ cls := "SortingLoop", name := "<init>", desc := "(LSortingLoop$Loop;)V" } : Jvm.MethodName) prog_1_method_8_code (2 : Nat) (Option.none : Option Jvm.ClassFile.FieldType)) ∈ lw_all := lw_g (lw_at lw_m3 184 rfl) rfl
theorem q802 : (Jvm.Cond.methodLink "SortingLoop" (25 : Nat) ({ cls := "java/lang/Object", name := "<init>", desc := "()V" } : Jvm.MethodName)) ∈ lw_all := lw_g (lw_at lw_m3 185 rfl) rfl
theorem q803 : (Jvm.Cond.classLink "SortingLoop" (36 : Nat) "java/util/ArrayDeque") ∈ lw_all := lw_g (lw_at lw_m3 186 rfl) rfl
theorem q805 : (Jvm.Cond.methodLink "SortingLoop" (38 : Nat) ({ cls := "java/util/ArrayDeque", name := "<init>", desc := "()V" } : Jvm.MethodName)) ∈ lw_all := lw_g (lw_at lw_m3 188 rfl) rfl
theorem q820 : (Jvm.Cond.classLink "SortingLoop" (43 : Nat) "java/lang/StringBuilder") ∈ lw_all := lw_g (lw_at lw_m3 203 rfl) rfl
theorem q821 : (Jvm.Cond.methodLink "SortingLoop" (45 : Nat) ({ cls := "java/lang/StringBuilder", name := "<init>", desc := "()V" } : Jvm.MethodName)) ∈ lw_all := lw_g (lw_at lw_m3 204 rfl) rfl
theorem q822 : (Jvm.Cond.methodLink "SortingLoop" (54 : Nat) ({ cls := "SortingLoop$Loop", name := "twin", desc := "()LSortingLoop$Loop;" } : Jvm.MethodName)) ∈ lw_all := lw_g (lw_at lw_m3 205 rfl) rfl
theorem q959 : (Jvm.Cond.fieldLinkNest "SortingLoop" (303 : Nat) "SortingLoop$Parcel" "number" "I" "SortingLoop") ∈ lw_tbl := lw_at lw_m4 102 rfl
theorem q963 : (Jvm.Cond.fieldLinkNest "SortingLoop" (252 : Nat) "SortingLoop$Parcel" "dest" "I" "SortingLoop") ∈ lw_tbl := lw_at lw_m4 106 rfl
theorem q966 : (Jvm.Cond.fieldLinkNest "SortingLoop" (255 : Nat) "SortingLoop$Parcel" "torn" "I" "SortingLoop") ∈ lw_tbl := lw_at lw_m4 109 rfl
theorem q969 : (Jvm.Cond.fieldLinkNest "SortingLoop" (258 : Nat) "SortingLoop$Parcel" "laps" "I" "SortingLoop") ∈ lw_tbl := lw_at lw_m4 112 rfl
theorem q972 : (Jvm.Cond.fieldLinkNest "SortingLoop" (261 : Nat) "SortingLoop$Parcel" "what" "I" "SortingLoop") ∈ lw_tbl := lw_at lw_m4 115 rfl
theorem q975 : (Jvm.Cond.fieldLinkNest "SortingLoop" (264 : Nat) "SortingLoop$Parcel" "cell" "I" "SortingLoop") ∈ lw_tbl := lw_at lw_m4 118 rfl
theorem q978 : (Jvm.Cond.fieldLinkNest "SortingLoop" (221 : Nat) "SortingLoop$Parcel" "track" "I" "SortingLoop") ∈ lw_tbl := lw_at lw_m4 121 rfl
theorem q981 : (Jvm.Cond.fieldLinkNest "SortingLoop" (267 : Nat) "SortingLoop$Parcel" "chute" "I" "SortingLoop") ∈ lw_tbl := lw_at lw_m4 124 rfl
theorem q983 : (Jvm.Cond.fieldLinkNest "SortingLoop" (269 : Nat) "SortingLoop$Parcel" "left" "I" "SortingLoop") ∈ lw_tbl := lw_at lw_m4 126 rfl
theorem q986 : (Jvm.Cond.fieldLinkNest "SortingLoop" (389 : Nat) "SortingLoop$Parcel" "slipped" "Z" "SortingLoop") ∈ lw_tbl := lw_at lw_m4 129 rfl
theorem q1323 : (Jvm.Cond.fieldLink "SortingLoop" (28 : Nat) "SortingLoop" "input" "[B") ∈ lw_all := lw_g (lw_at lw_m5 226 rfl) rfl
theorem q1325 : (Jvm.Cond.fieldLink "SortingLoop" (84 : Nat) "SortingLoop" "inputLength" "I") ∈ lw_all := lw_g (lw_at lw_m5 228 rfl) rfl
theorem q1326 : (Jvm.Cond.fieldLink "SortingLoop" (95 : Nat) "SortingLoop" "errorCode" "I") ∈ lw_all := lw_g (lw_at lw_m5 229 rfl) rfl
theorem q1327 : (Jvm.Cond.fieldLink "SortingLoop" (32 : Nat) "SortingLoop" "errorOffset" "I") ∈ lw_all := lw_g (lw_at lw_m5 230 rfl) rfl
theorem q1329 : (Jvm.Cond.fieldLink "SortingLoop" (50 : Nat) "SortingLoop" "now" "LSortingLoop$Loop;") ∈ lw_all := lw_g (lw_at lw_m5 232 rfl) rfl
theorem q1330 : (Jvm.Cond.fieldLink "SortingLoop" (120 : Nat) "SortingLoop" "saved" "LSortingLoop$Loop;") ∈ lw_all := lw_g (lw_at lw_m5 233 rfl) rfl
theorem q1331 : (Jvm.Cond.fieldLink "SortingLoop" (59 : Nat) "SortingLoop" "thought" "LSortingLoop$Loop;") ∈ lw_all := lw_g (lw_at lw_m5 234 rfl) rfl
theorem q1332 : (Jvm.Cond.fieldLink "SortingLoop" (39 : Nat) "SortingLoop" "history" "Ljava/util/ArrayDeque;") ∈ lw_all := lw_g (lw_at lw_m5 235 rfl) rfl
theorem q1333 : (Jvm.Cond.fieldLink "SortingLoop" (46 : Nat) "SortingLoop" "output" "Ljava/lang/StringBuilder;") ∈ lw_all := lw_g (lw_at lw_m5 236 rfl) rfl
theorem q1334 : (Jvm.Cond.laysFinal "SortingLoop" "SortingLoop" "input" "[B") ∈ lw_all := lw_g (lw_at lw_m5 237 rfl) rfl
theorem q1335 : (Jvm.Cond.soleField "SortingLoop" "input") ∈ lw_all := lw_g (lw_at lw_m5 238 rfl) rfl
theorem q1336 : (Jvm.Cond.lays "SortingLoop" "SortingLoop" "inputLength" "I") ∈ lw_all := lw_g (lw_at lw_m5 239 rfl) rfl
theorem q1337 : (Jvm.Cond.soleField "SortingLoop" "inputLength") ∈ lw_all := lw_g (lw_at lw_m6 0 rfl) rfl
theorem q1338 : (Jvm.Cond.lays "SortingLoop" "SortingLoop" "errorCode" "I") ∈ lw_all := lw_g (lw_at lw_m6 1 rfl) rfl
theorem q1339 : (Jvm.Cond.soleField "SortingLoop" "errorCode") ∈ lw_all := lw_g (lw_at lw_m6 2 rfl) rfl
theorem q1340 : (Jvm.Cond.lays "SortingLoop" "SortingLoop" "errorOffset" "I") ∈ lw_all := lw_g (lw_at lw_m6 3 rfl) rfl
theorem q1341 : (Jvm.Cond.soleField "SortingLoop" "errorOffset") ∈ lw_all := lw_g (lw_at lw_m6 4 rfl) rfl
theorem q1342 : (Jvm.Cond.lays "SortingLoop" "SortingLoop" "now" "LSortingLoop$Loop;") ∈ lw_all := lw_g (lw_at lw_m6 5 rfl) rfl
theorem q1343 : (Jvm.Cond.soleField "SortingLoop" "now") ∈ lw_all := lw_g (lw_at lw_m6 6 rfl) rfl
theorem q1344 : (Jvm.Cond.lays "SortingLoop" "SortingLoop" "saved" "LSortingLoop$Loop;") ∈ lw_all := lw_g (lw_at lw_m6 7 rfl) rfl
theorem q1345 : (Jvm.Cond.soleField "SortingLoop" "saved") ∈ lw_all := lw_g (lw_at lw_m6 8 rfl) rfl
theorem q1346 : (Jvm.Cond.lays "SortingLoop" "SortingLoop" "thought" "LSortingLoop$Loop;") ∈ lw_all := lw_g (lw_at lw_m6 9 rfl) rfl
theorem q1347 : (Jvm.Cond.soleField "SortingLoop" "thought") ∈ lw_all := lw_g (lw_at lw_m6 10 rfl) rfl
theorem q1348 : (Jvm.Cond.laysFinal "SortingLoop" "SortingLoop" "history" "Ljava/util/ArrayDeque;") ∈ lw_all := lw_g (lw_at lw_m6 11 rfl) rfl
theorem q1349 : (Jvm.Cond.soleField "SortingLoop" "history") ∈ lw_all := lw_g (lw_at lw_m6 12 rfl) rfl
theorem q1350 : (Jvm.Cond.laysFinal "SortingLoop" "SortingLoop" "output" "Ljava/lang/StringBuilder;") ∈ lw_all := lw_g (lw_at lw_m6 13 rfl) rfl
theorem q1351 : (Jvm.Cond.soleField "SortingLoop" "output") ∈ lw_all := lw_g (lw_at lw_m6 14 rfl) rfl
theorem q1352 : (Jvm.Cond.superclass "SortingLoop" "java/lang/Object") ∈ lw_all := lw_g (lw_at lw_m6 15 rfl) rfl
theorem q1354 : (Jvm.Cond.instanceMethod ({ cls := "SortingLoop", name := "appendInput", desc := "(IIIII)I" } : Jvm.MethodName)) ∈ lw_all := lw_g (lw_at lw_m6 17 rfl) rfl
theorem q1355 : (Jvm.Cond.selects "SortingLoop" ({ cls := "SortingLoop", name := "appendInput", desc := "(IIIII)I" } : Jvm.MethodName) ({ cls := "SortingLoop", name := "appendInput", desc := "(IIIII)I" } : Jvm.MethodName)) ∈ lw_all := lw_g (lw_at lw_m6 18 rfl) rfl
theorem q1356 : (Jvm.Cond.code ({ cls := "SortingLoop", name := "appendInput", desc := "(IIIII)I" } : Jvm.MethodName) prog_1_method_11_code (6 : Nat) (Option.some Jvm.ClassFile.FieldType.int)) ∈ lw_all := lw_g (lw_at lw_m6 19 rfl) rfl
theorem q1357 : (Jvm.Cond.methodLink "SortingLoop" (87 : Nat) ({ cls := "SortingLoop", name := "appends", desc := "(I)V" } : Jvm.MethodName)) ∈ lw_all := lw_g (lw_at lw_m6 20 rfl) rfl
theorem q1358 : (Jvm.Cond.privateMethod ({ cls := "SortingLoop", name := "appends", desc := "(I)V" } : Jvm.MethodName)) ∈ lw_tbl := lw_at lw_m6 21 rfl
theorem q1359 : (Jvm.Cond.instanceMethod ({ cls := "SortingLoop", name := "appends", desc := "(I)V" } : Jvm.MethodName)) ∈ lw_all := lw_g (lw_at lw_m6 22 rfl) rfl
theorem q1360 : (Jvm.Cond.code ({ cls := "SortingLoop", name := "appends", desc := "(I)V" } : Jvm.MethodName) prog_1_method_10_code (3 : Nat) (Option.none : Option Jvm.ClassFile.FieldType)) ∈ lw_all := lw_g (lw_at lw_m6 23 rfl) rfl
theorem q1362 : (Jvm.Cond.instanceMethod ({ cls := "SortingLoop", name := "truncateInput", desc := "(I)Z" } : Jvm.MethodName)) ∈ lw_all := lw_g (lw_at lw_m6 25 rfl) rfl
theorem q1363 : (Jvm.Cond.selects "SortingLoop" ({ cls := "SortingLoop", name := "truncateInput", desc := "(I)Z" } : Jvm.MethodName) ({ cls := "SortingLoop", name := "truncateInput", desc := "(I)Z" } : Jvm.MethodName)) ∈ lw_all := lw_g (lw_at lw_m6 26 rfl) rfl
theorem q1364 : (Jvm.Cond.code ({ cls := "SortingLoop", name := "truncateInput", desc := "(I)Z" } : Jvm.MethodName) prog_1_method_12_code (2 : Nat) (Option.some Jvm.ClassFile.FieldType.boolean)) ∈ lw_all := lw_g (lw_at lw_m6 27 rfl) rfl
theorem q1365 : (Jvm.Cond.methodLink "SortingLoop" (91 : Nat) ({ cls := "SortingLoop", name := "isIn", desc := "(JJJ)Z" } : Jvm.MethodName)) ∈ lw_all := lw_g (lw_at lw_m6 28 rfl) rfl
theorem q1366 : (Jvm.Cond.static ({ cls := "SortingLoop", name := "isIn", desc := "(JJJ)Z" } : Jvm.MethodName)) ∈ lw_all := lw_g (lw_at lw_m6 29 rfl) rfl
theorem q1367 : (Jvm.Cond.code ({ cls := "SortingLoop", name := "isIn", desc := "(JJJ)Z" } : Jvm.MethodName) prog_1_method_1_code (6 : Nat) (Option.some Jvm.ClassFile.FieldType.boolean)) ∈ lw_all := lw_g (lw_at lw_m6 30 rfl) rfl
theorem q1369 : (Jvm.Cond.instanceMethod ({ cls := "SortingLoop", name := "loadLoop", desc := "()I" } : Jvm.MethodName)) ∈ lw_all := lw_g (lw_at lw_m6 32 rfl) rfl
theorem q1370 : (Jvm.Cond.selects "SortingLoop" ({ cls := "SortingLoop", name := "loadLoop", desc := "()I" } : Jvm.MethodName) ({ cls := "SortingLoop", name := "loadLoop", desc := "()I" } : Jvm.MethodName)) ∈ lw_all := lw_g (lw_at lw_m6 33 rfl) rfl
theorem q1371 : (Jvm.Cond.codeWith ({ cls := "SortingLoop", name := "loadLoop", desc := "()I" } : Jvm.MethodName) prog_1_method_15_code (4 : Nat) (Option.some Jvm.ClassFile.FieldType.int) [((4 : Nat), (55 : Nat), (62 : Nat), (99 : Nat)), ((4 : Nat), (55 : Nat), (76 : Nat), (0 : Nat)), ((62 : Nat), (69 : Nat), (76 : Nat), (0 : Nat))]) ∈ lw_all := lw_g (lw_at lw_m6 34 rfl) rfl
theorem q1372 : (Jvm.Cond.classLink "SortingLoop" (99 : Nat) "SortingLoop$ParseException") ∈ lw_all := lw_g (lw_at lw_m6 35 rfl) rfl
theorem q1373 : (Jvm.Cond.methodLink "SortingLoop" (106 : Nat) ({ cls := "SortingLoop", name := "startsText", desc := "()V" } : Jvm.MethodName)) ∈ lw_all := lw_g (lw_at lw_m6 36 rfl) rfl
theorem q1374 : (Jvm.Cond.privateMethod ({ cls := "SortingLoop", name := "startsText", desc := "()V" } : Jvm.MethodName)) ∈ lw_tbl := lw_at lw_m6 37 rfl
theorem q1375 : (Jvm.Cond.instanceMethod ({ cls := "SortingLoop", name := "startsText", desc := "()V" } : Jvm.MethodName)) ∈ lw_all := lw_g (lw_at lw_m6 38 rfl) rfl
theorem q1376 : (Jvm.Cond.code ({ cls := "SortingLoop", name := "startsText", desc := "()V" } : Jvm.MethodName) prog_1_method_13_code (1 : Nat) (Option.none : Option Jvm.ClassFile.FieldType)) ∈ lw_all := lw_g (lw_at lw_m6 39 rfl) rfl
theorem q1377 : (Jvm.Cond.classLink "SortingLoop" (109 : Nat) "SortingLoop$Setup") ∈ lw_all := lw_g (lw_at lw_m6 40 rfl) rfl
theorem q1379 : (Jvm.Cond.methodLinkNest "SortingLoop" (111 : Nat) ({ cls := "SortingLoop$Setup", name := "<init>", desc := "(LSortingLoop;)V" } : Jvm.MethodName) "SortingLoop") ∈ lw_tbl := lw_at lw_m6 42 rfl
theorem q1542 : (Jvm.Cond.methodLink "SortingLoop" (114 : Nat) ({ cls := "SortingLoop$Setup", name := "read", desc := "()LSortingLoop$Loop;" } : Jvm.MethodName)) ∈ lw_all := lw_g (lw_at lw_m6 205 rfl) rfl
theorem q1590 : (Jvm.Cond.fieldLinkNest "SortingLoop" (98 : Nat) "SortingLoop$ParseException" "code" "I" "SortingLoop") ∈ lw_tbl := lw_at lw_m7 13 rfl
theorem q1592 : (Jvm.Cond.fieldLinkNest "SortingLoop" (103 : Nat) "SortingLoop$ParseException" "offset" "I" "SortingLoop") ∈ lw_tbl := lw_at lw_m7 15 rfl
theorem q1703 : (Jvm.Cond.static ({ cls := "SortingLoop", name := "bit", desc := "(Z)I" } : Jvm.MethodName)) ∈ lw_all := lw_g (lw_at lw_m7 126 rfl) rfl
theorem q1704 : (Jvm.Cond.code ({ cls := "SortingLoop", name := "bit", desc := "(Z)I" } : Jvm.MethodName) prog_1_method_6_code (1 : Nat) (Option.some Jvm.ClassFile.FieldType.int)) ∈ lw_all := lw_g (lw_at lw_m7 127 rfl) rfl
theorem q1743 : (Jvm.Cond.methodLink "SortingLoop" (117 : Nat) ({ cls := "java/util/ArrayDeque", name := "clear", desc := "()V" } : Jvm.MethodName)) ∈ lw_all := lw_g (lw_at lw_m7 166 rfl) rfl
theorem q1750 : (Jvm.Cond.interfaceEntry "SortingLoop" (123 : Nat)) ∈ lw_tbl := lw_at lw_m7 173 rfl
theorem q1751 : (Jvm.Cond.methodLink "SortingLoop" (123 : Nat) ({ cls := "java/util/List", name := "size", desc := "()I" } : Jvm.MethodName)) ∈ lw_all := lw_g (lw_at lw_m7 174 rfl) rfl
theorem q1752 : (Jvm.Cond.methodLink "SortingLoop" (127 : Nat) ({ cls := "SortingLoop", name := "fails", desc := "(LSortingLoop$ParseException;)I" } : Jvm.MethodName)) ∈ lw_all := lw_g (lw_at lw_m7 175 rfl) rfl
theorem q1753 : (Jvm.Cond.privateMethod ({ cls := "SortingLoop", name := "fails", desc := "(LSortingLoop$ParseException;)I" } : Jvm.MethodName)) ∈ lw_tbl := lw_at lw_m7 176 rfl
theorem q1754 : (Jvm.Cond.instanceMethod ({ cls := "SortingLoop", name := "fails", desc := "(LSortingLoop$ParseException;)I" } : Jvm.MethodName)) ∈ lw_all := lw_g (lw_at lw_m7 177 rfl) rfl
theorem q1755 : (Jvm.Cond.code ({ cls := "SortingLoop", name := "fails", desc := "(LSortingLoop$ParseException;)I" } : Jvm.MethodName) prog_1_method_14_code (2 : Nat) (Option.some Jvm.ClassFile.FieldType.int)) ∈ lw_all := lw_g (lw_at lw_m7 178 rfl) rfl
theorem q1757 : (Jvm.Cond.instanceMethod ({ cls := "SortingLoop", name := "playScript", desc := "()I" } : Jvm.MethodName)) ∈ lw_all := lw_g (lw_at lw_m7 180 rfl) rfl
theorem q1758 : (Jvm.Cond.selects "SortingLoop" ({ cls := "SortingLoop", name := "playScript", desc := "()I" } : Jvm.MethodName) ({ cls := "SortingLoop", name := "playScript", desc := "()I" } : Jvm.MethodName)) ∈ lw_all := lw_g (lw_at lw_m7 181 rfl) rfl
theorem q1759 : (Jvm.Cond.codeWith ({ cls := "SortingLoop", name := "playScript", desc := "()I" } : Jvm.MethodName) prog_1_method_16_code (4 : Nat) (Option.some Jvm.ClassFile.FieldType.int) [((4 : Nat), (20 : Nat), (27 : Nat), (99 : Nat)), ((4 : Nat), (20 : Nat), (41 : Nat), (0 : Nat)), ((27 : Nat), (34 : Nat), (41 : Nat), (0 : Nat))]) ∈ lw_all := lw_g (lw_at lw_m7 182 rfl) rfl
theorem q1760 : (Jvm.Cond.classLink "SortingLoop" (131 : Nat) "SortingLoop$Script") ∈ lw_all := lw_g (lw_at lw_m7 183 rfl) rfl
theorem q1762 : (Jvm.Cond.methodLinkNest "SortingLoop" (133 : Nat) ({ cls := "SortingLoop$Script", name := "<init>", desc := "(LSortingLoop;)V" } : Jvm.MethodName) "SortingLoop") ∈ lw_tbl := lw_at lw_m7 185 rfl
theorem q1781 : (Jvm.Cond.methodLink "SortingLoop" (134 : Nat) ({ cls := "SortingLoop$Script", name := "read", desc := "()Ljava/util/List;" } : Jvm.MethodName)) ∈ lw_all := lw_g (lw_at lw_m7 204 rfl) rfl
theorem q1898 : (Jvm.Cond.methodLink "SortingLoop" (137 : Nat) ({ cls := "SortingLoop", name := "plays", desc := "(Ljava/util/List;)I" } : Jvm.MethodName)) ∈ lw_all := lw_g (lw_at lw_m8 81 rfl) rfl
theorem q1899 : (Jvm.Cond.privateMethod ({ cls := "SortingLoop", name := "plays", desc := "(Ljava/util/List;)I" } : Jvm.MethodName)) ∈ lw_tbl := lw_at lw_m8 82 rfl
theorem q1900 : (Jvm.Cond.instanceMethod ({ cls := "SortingLoop", name := "plays", desc := "(Ljava/util/List;)I" } : Jvm.MethodName)) ∈ lw_all := lw_g (lw_at lw_m8 83 rfl) rfl
theorem q1901 : (Jvm.Cond.code ({ cls := "SortingLoop", name := "plays", desc := "(Ljava/util/List;)I" } : Jvm.MethodName) prog_1_method_17_code (4 : Nat) (Option.some Jvm.ClassFile.FieldType.int)) ∈ lw_all := lw_g (lw_at lw_m8 84 rfl) rfl
theorem q1902 : (Jvm.Cond.methodLink "SortingLoop" (141 : Nat) ({ cls := "SortingLoop", name := "changed", desc := "()LSortingLoop$Loop;" } : Jvm.MethodName)) ∈ lw_all := lw_g (lw_at lw_m8 85 rfl) rfl
theorem q1903 : (Jvm.Cond.privateMethod ({ cls := "SortingLoop", name := "changed", desc := "()LSortingLoop$Loop;" } : Jvm.MethodName)) ∈ lw_tbl := lw_at lw_m8 86 rfl
theorem q1904 : (Jvm.Cond.instanceMethod ({ cls := "SortingLoop", name := "changed", desc := "()LSortingLoop$Loop;" } : Jvm.MethodName)) ∈ lw_all := lw_g (lw_at lw_m8 87 rfl) rfl
theorem q1905 : (Jvm.Cond.code ({ cls := "SortingLoop", name := "changed", desc := "()LSortingLoop$Loop;" } : Jvm.MethodName) prog_1_method_62_code (1 : Nat) (Option.some (Jvm.ClassFile.FieldType.object "SortingLoop$Loop"))) ∈ lw_all := lw_g (lw_at lw_m8 88 rfl) rfl
theorem q1906 : (Jvm.Cond.methodLink "SortingLoop" (203 : Nat) ({ cls := "java/util/ArrayDeque", name := "size", desc := "()I" } : Jvm.MethodName)) ∈ lw_all := lw_g (lw_at lw_m8 89 rfl) rfl
theorem q1907 : (Jvm.Cond.methodLink "SortingLoop" (403 : Nat) ({ cls := "java/util/ArrayDeque", name := "removeFirst", desc := "()Ljava/lang/Object;" } : Jvm.MethodName)) ∈ lw_all := lw_g (lw_at lw_m8 90 rfl) rfl
theorem q1923 : (Jvm.Cond.methodLink "SortingLoop" (407 : Nat) ({ cls := "java/util/ArrayDeque", name := "addLast", desc := "(Ljava/lang/Object;)V" } : Jvm.MethodName)) ∈ lw_all := lw_g (lw_at lw_m8 106 rfl) rfl
theorem q1955 : (Jvm.Cond.interfaceEntry "SortingLoop" (144 : Nat)) ∈ lw_tbl := lw_at lw_m8 138 rfl
theorem q1956 : (Jvm.Cond.methodLink "SortingLoop" (144 : Nat) ({ cls := "java/util/List", name := "get", desc := "(I)Ljava/lang/Object;" } : Jvm.MethodName)) ∈ lw_all := lw_g (lw_at lw_m8 139 rfl) rfl
theorem q1957 : (Jvm.Cond.classLink "SortingLoop" (148 : Nat) "SortingLoop$Deed") ∈ lw_all := lw_g (lw_at lw_m8 140 rfl) rfl
theorem q1958 : (Jvm.Cond.methodLink "SortingLoop" (150 : Nat) ({ cls := "SortingLoop$Deed", name := "does", desc := "(LSortingLoop$Loop;)Z" } : Jvm.MethodName)) ∈ lw_all := lw_g (lw_at lw_m8 141 rfl) rfl
theorem q2146 : (Jvm.Cond.instanceMethod ({ cls := "SortingLoop", name := "errorCode", desc := "()I" } : Jvm.MethodName)) ∈ lw_all := lw_g (lw_at lw_m9 89 rfl) rfl
theorem q2147 : (Jvm.Cond.selects "SortingLoop" ({ cls := "SortingLoop", name := "errorCode", desc := "()I" } : Jvm.MethodName) ({ cls := "SortingLoop", name := "errorCode", desc := "()I" } : Jvm.MethodName)) ∈ lw_all := lw_g (lw_at lw_m9 90 rfl) rfl
theorem q2148 : (Jvm.Cond.code ({ cls := "SortingLoop", name := "errorCode", desc := "()I" } : Jvm.MethodName) prog_1_method_18_code (1 : Nat) (Option.some Jvm.ClassFile.FieldType.int)) ∈ lw_all := lw_g (lw_at lw_m9 91 rfl) rfl
theorem q2150 : (Jvm.Cond.instanceMethod ({ cls := "SortingLoop", name := "errorOffset", desc := "()I" } : Jvm.MethodName)) ∈ lw_all := lw_g (lw_at lw_m9 93 rfl) rfl
theorem q2151 : (Jvm.Cond.selects "SortingLoop" ({ cls := "SortingLoop", name := "errorOffset", desc := "()I" } : Jvm.MethodName) ({ cls := "SortingLoop", name := "errorOffset", desc := "()I" } : Jvm.MethodName)) ∈ lw_all := lw_g (lw_at lw_m9 94 rfl) rfl
theorem q2152 : (Jvm.Cond.code ({ cls := "SortingLoop", name := "errorOffset", desc := "()I" } : Jvm.MethodName) prog_1_method_19_code (1 : Nat) (Option.some Jvm.ClassFile.FieldType.int)) ∈ lw_all := lw_g (lw_at lw_m9 95 rfl) rfl
theorem q2154 : (Jvm.Cond.instanceMethod ({ cls := "SortingLoop", name := "whyNoPut", desc := "()I" } : Jvm.MethodName)) ∈ lw_all := lw_g (lw_at lw_m9 97 rfl) rfl
theorem q2155 : (Jvm.Cond.selects "SortingLoop" ({ cls := "SortingLoop", name := "whyNoPut", desc := "()I" } : Jvm.MethodName) ({ cls := "SortingLoop", name := "whyNoPut", desc := "()I" } : Jvm.MethodName)) ∈ lw_all := lw_g (lw_at lw_m9 98 rfl) rfl
theorem q2156 : (Jvm.Cond.code ({ cls := "SortingLoop", name := "whyNoPut", desc := "()I" } : Jvm.MethodName) prog_1_method_42_code (1 : Nat) (Option.some Jvm.ClassFile.FieldType.int)) ∈ lw_all := lw_g (lw_at lw_m9 99 rfl) rfl
theorem q2157 : (Jvm.Cond.methodLink "SortingLoop" (339 : Nat) ({ cls := "SortingLoop$Loop", name := "againstPut", desc := "()I" } : Jvm.MethodName)) ∈ lw_all := lw_g (lw_at lw_m9 100 rfl) rfl
theorem q2159 : (Jvm.Cond.instanceMethod ({ cls := "SortingLoop", name := "clearIn", desc := "()I" } : Jvm.MethodName)) ∈ lw_all := lw_g (lw_at lw_m9 102 rfl) rfl
theorem q2160 : (Jvm.Cond.selects "SortingLoop" ({ cls := "SortingLoop", name := "clearIn", desc := "()I" } : Jvm.MethodName) ({ cls := "SortingLoop", name := "clearIn", desc := "()I" } : Jvm.MethodName)) ∈ lw_all := lw_g (lw_at lw_m9 103 rfl) rfl
theorem q2161 : (Jvm.Cond.code ({ cls := "SortingLoop", name := "clearIn", desc := "()I" } : Jvm.MethodName) prog_1_method_55_code (4 : Nat) (Option.some Jvm.ClassFile.FieldType.int)) ∈ lw_all := lw_g (lw_at lw_m9 104 rfl) rfl
theorem q2162 : (Jvm.Cond.methodLink "SortingLoop" (351 : Nat) ({ cls := "SortingLoop", name := "think", desc := "()LSortingLoop$Loop;" } : Jvm.MethodName)) ∈ lw_all := lw_g (lw_at lw_m9 105 rfl) rfl
theorem q2163 : (Jvm.Cond.privateMethod ({ cls := "SortingLoop", name := "think", desc := "()LSortingLoop$Loop;" } : Jvm.MethodName)) ∈ lw_tbl := lw_at lw_m9 106 rfl
theorem q2164 : (Jvm.Cond.instanceMethod ({ cls := "SortingLoop", name := "think", desc := "()LSortingLoop$Loop;" } : Jvm.MethodName)) ∈ lw_all := lw_g (lw_at lw_m9 107 rfl) rfl
theorem q2165 : (Jvm.Cond.code ({ cls := "SortingLoop", name := "think", desc := "()LSortingLoop$Loop;" } : Jvm.MethodName) prog_1_method_45_code (1 : Nat) (Option.some (Jvm.ClassFile.FieldType.object "SortingLoop$Loop"))) ∈ lw_all := lw_g (lw_at lw_m9 108 rfl) rfl
theorem q2166 : (Jvm.Cond.methodLink "SortingLoop" (347 : Nat) ({ cls := "SortingLoop$Loop", name := "takes", desc := "(LSortingLoop$Loop;)LSortingLoop$Loop;" } : Jvm.MethodName)) ∈ lw_all := lw_g (lw_at lw_m9 109 rfl) rfl
theorem q2167 : (Jvm.Cond.methodLink "SortingLoop" (193 : Nat) ({ cls := "SortingLoop$Loop", name := "those", desc := "(I)I" } : Jvm.MethodName)) ∈ lw_all := lw_g (lw_at lw_m9 110 rfl) rfl
theorem q2168 : (Jvm.Cond.methodLink "SortingLoop" (354 : Nat) ({ cls := "SortingLoop$Loop", name := "ticks", desc := "()I" } : Jvm.MethodName)) ∈ lw_all := lw_g (lw_at lw_m9 111 rfl) rfl
theorem q2170 : (Jvm.Cond.instanceMethod ({ cls := "SortingLoop", name := "freeIn", desc := "()I" } : Jvm.MethodName)) ∈ lw_all := lw_g (lw_at lw_m9 113 rfl) rfl
theorem q2171 : (Jvm.Cond.selects "SortingLoop" ({ cls := "SortingLoop", name := "freeIn", desc := "()I" } : Jvm.MethodName) ({ cls := "SortingLoop", name := "freeIn", desc := "()I" } : Jvm.MethodName)) ∈ lw_all := lw_g (lw_at lw_m9 114 rfl) rfl
theorem q2172 : (Jvm.Cond.code ({ cls := "SortingLoop", name := "freeIn", desc := "()I" } : Jvm.MethodName) prog_1_method_56_code (4 : Nat) (Option.some Jvm.ClassFile.FieldType.int)) ∈ lw_all := lw_g (lw_at lw_m9 115 rfl) rfl
theorem q2173 : (Jvm.Cond.methodLink "SortingLoop" (382 : Nat) ({ cls := "SortingLoop$Places", name := "isFree", desc := "(I)Z" } : Jvm.MethodName)) ∈ lw_all := lw_g (lw_at lw_m9 116 rfl) rfl
theorem q2175 : (Jvm.Cond.instanceMethod ({ cls := "SortingLoop", name := "agree", desc := "()Z" } : Jvm.MethodName)) ∈ lw_all := lw_g (lw_at lw_m9 118 rfl) rfl
theorem q2176 : (Jvm.Cond.selects "SortingLoop" ({ cls := "SortingLoop", name := "agree", desc := "()Z" } : Jvm.MethodName) ({ cls := "SortingLoop", name := "agree", desc := "()Z" } : Jvm.MethodName)) ∈ lw_all := lw_g (lw_at lw_m9 119 rfl) rfl
theorem q2177 : (Jvm.Cond.code ({ cls := "SortingLoop", name := "agree", desc := "()Z" } : Jvm.MethodName) prog_1_method_59_code (3 : Nat) (Option.some Jvm.ClassFile.FieldType.boolean)) ∈ lw_all := lw_g (lw_at lw_m9 120 rfl) rfl
theorem q2178 : (Jvm.Cond.methodLink "SortingLoop" (170 : Nat) ({ cls := "SortingLoop", name := "bit", desc := "(Z)I" } : Jvm.MethodName)) ∈ lw_all := lw_g (lw_at lw_m9 121 rfl) rfl
theorem q2179 : (Jvm.Cond.methodLink "SortingLoop" (157 : Nat) ({ cls := "SortingLoop$Loop", name := "parcel", desc := "(I)LSortingLoop$Parcel;" } : Jvm.MethodName)) ∈ lw_all := lw_g (lw_at lw_m9 122 rfl) rfl
theorem q2180 : (Jvm.Cond.methodLink "SortingLoop" (392 : Nat) ({ cls := "SortingLoop", name := "isInPlace", desc := "(LSortingLoop$Parcel;)Z" } : Jvm.MethodName)) ∈ lw_all := lw_g (lw_at lw_m9 123 rfl) rfl
theorem q2181 : (Jvm.Cond.privateMethod ({ cls := "SortingLoop", name := "isInPlace", desc := "(LSortingLoop$Parcel;)Z" } : Jvm.MethodName)) ∈ lw_tbl := lw_at lw_m9 124 rfl
theorem q2182 : (Jvm.Cond.instanceMethod ({ cls := "SortingLoop", name := "isInPlace", desc := "(LSortingLoop$Parcel;)Z" } : Jvm.MethodName)) ∈ lw_all := lw_g (lw_at lw_m9 125 rfl) rfl
theorem q2183 : (Jvm.Cond.code ({ cls := "SortingLoop", name := "isInPlace", desc := "(LSortingLoop$Parcel;)Z" } : Jvm.MethodName) prog_1_method_57_code (4 : Nat) (Option.some Jvm.ClassFile.FieldType.boolean)) ∈ lw_all := lw_g (lw_at lw_m9 126 rfl) rfl
theorem q2184 : (Jvm.Cond.methodLink "SortingLoop" (231 : Nat) ({ cls := "SortingLoop$Places", name := "at", desc := "(I)LSortingLoop$Numbered;" } : Jvm.MethodName)) ∈ lw_all := lw_g (lw_at lw_m9 127 rfl) rfl
theorem q2185 : (Jvm.Cond.methodLink "SortingLoop" (217 : Nat) ({ cls := "SortingLoop$Loop", name := "chute", desc := "(I)LSortingLoop$Chute;" } : Jvm.MethodName)) ∈ lw_all := lw_g (lw_at lw_m9 128 rfl) rfl
theorem q2186 : (Jvm.Cond.interfaceEntry "SortingLoop" (386 : Nat)) ∈ lw_tbl := lw_at lw_m9 129 rfl
theorem q2187 : (Jvm.Cond.methodLink "SortingLoop" (386 : Nat) ({ cls := "java/util/List", name := "contains", desc := "(Ljava/lang/Object;)Z" } : Jvm.MethodName)) ∈ lw_all := lw_g (lw_at lw_m9 130 rfl) rfl
theorem q2207 : (Jvm.Cond.selects "SortingLoop" ({ cls := "java/lang/Object", name := "equals", desc := "(Ljava/lang/Object;)Z" } : Jvm.MethodName) ({ cls := "java/lang/Object", name := "equals", desc := "(Ljava/lang/Object;)Z" } : Jvm.MethodName)) ∈ lw_all := lw_g (lw_at lw_m9 150 rfl) rfl
theorem q2243 : (Jvm.Cond.methodLink "SortingLoop" (174 : Nat) ({ cls := "SortingLoop$Loop", name := "lag", desc := "(LSortingLoop$Parcel;)I" } : Jvm.MethodName)) ∈ lw_all := lw_g (lw_at lw_m9 186 rfl) rfl
theorem q2265 : (Jvm.Cond.methodLink "SortingLoop" (400 : Nat) ({ cls := "SortingLoop", name := "areChutes", desc := "()Z" } : Jvm.MethodName)) ∈ lw_all := lw_g (lw_at lw_m9 208 rfl) rfl
theorem q2266 : (Jvm.Cond.privateMethod ({ cls := "SortingLoop", name := "areChutes", desc := "()Z" } : Jvm.MethodName)) ∈ lw_tbl := lw_at lw_m9 209 rfl
theorem q2267 : (Jvm.Cond.instanceMethod ({ cls := "SortingLoop", name := "areChutes", desc := "()Z" } : Jvm.MethodName)) ∈ lw_all := lw_g (lw_at lw_m9 210 rfl) rfl
theorem q2268 : (Jvm.Cond.code ({ cls := "SortingLoop", name := "areChutes", desc := "()Z" } : Jvm.MethodName) prog_1_method_58_code (5 : Nat) (Option.some Jvm.ClassFile.FieldType.boolean)) ∈ lw_all := lw_g (lw_at lw_m9 211 rfl) rfl
theorem q2270 : (Jvm.Cond.instanceMethod ({ cls := "SortingLoop", name := "sortedPart", desc := "()D" } : Jvm.MethodName)) ∈ lw_all := lw_g (lw_at lw_m9 213 rfl) rfl
theorem q2271 : (Jvm.Cond.selects "SortingLoop" ({ cls := "SortingLoop", name := "sortedPart", desc := "()D" } : Jvm.MethodName) ({ cls := "SortingLoop", name := "sortedPart", desc := "()D" } : Jvm.MethodName)) ∈ lw_all := lw_g (lw_at lw_m9 214 rfl) rfl
theorem q2272 : (Jvm.Cond.code ({ cls := "SortingLoop", name := "sortedPart", desc := "()D" } : Jvm.MethodName) prog_1_method_60_code (2 : Nat) (Option.some Jvm.ClassFile.FieldType.double)) ∈ lw_all := lw_g (lw_at lw_m9 215 rfl) rfl
theorem q2274 : (Jvm.Cond.instanceMethod ({ cls := "SortingLoop", name := "load", desc := "()F" } : Jvm.MethodName)) ∈ lw_all := lw_g (lw_at lw_m9 217 rfl) rfl
theorem q2275 : (Jvm.Cond.selects "SortingLoop" ({ cls := "SortingLoop", name := "load", desc := "()F" } : Jvm.MethodName) ({ cls := "SortingLoop", name := "load", desc := "()F" } : Jvm.MethodName)) ∈ lw_all := lw_g (lw_at lw_m9 218 rfl) rfl
theorem q2276 : (Jvm.Cond.code ({ cls := "SortingLoop", name := "load", desc := "()F" } : Jvm.MethodName) prog_1_method_61_code (1 : Nat) (Option.some Jvm.ClassFile.FieldType.float)) ∈ lw_all := lw_g (lw_at lw_m9 219 rfl) rfl
theorem q2278 : (Jvm.Cond.instanceMethod ({ cls := "SortingLoop", name := "printLoop", desc := "()I" } : Jvm.MethodName)) ∈ lw_all := lw_g (lw_at lw_m9 221 rfl) rfl
theorem q2279 : (Jvm.Cond.selects "SortingLoop" ({ cls := "SortingLoop", name := "printLoop", desc := "()I" } : Jvm.MethodName) ({ cls := "SortingLoop", name := "printLoop", desc := "()I" } : Jvm.MethodName)) ∈ lw_all := lw_g (lw_at lw_m9 222 rfl) rfl
theorem q2280 : (Jvm.Cond.code ({ cls := "SortingLoop", name := "printLoop", desc := "()I" } : Jvm.MethodName) prog_1_method_71_code (2 : Nat) (Option.some Jvm.ClassFile.FieldType.int)) ∈ lw_all := lw_g (lw_at lw_m9 223 rfl) rfl
theorem q2281 : (Jvm.Cond.methodLink "SortingLoop" (435 : Nat) ({ cls := "java/lang/StringBuilder", name := "setLength", desc := "(I)V" } : Jvm.MethodName)) ∈ lw_all := lw_g (lw_at lw_m9 224 rfl) rfl
theorem q2346 : (Jvm.Cond.classLink "SortingLoop" (162 : Nat) "SortingLoop$Parcel") ∈ lw_all := lw_g (lw_at lw_m10 49 rfl) rfl
theorem q2347 : (Jvm.Cond.methodLink "SortingLoop" (438 : Nat) ({ cls := "SortingLoop", name := "sign", desc := "(LSortingLoop$Parcel;)C" } : Jvm.MethodName)) ∈ lw_all := lw_g (lw_at lw_m10 50 rfl) rfl
theorem q2348 : (Jvm.Cond.privateMethod ({ cls := "SortingLoop", name := "sign", desc := "(LSortingLoop$Parcel;)C" } : Jvm.MethodName)) ∈ lw_tbl := lw_at lw_m10 51 rfl
theorem q2349 : (Jvm.Cond.instanceMethod ({ cls := "SortingLoop", name := "sign", desc := "(LSortingLoop$Parcel;)C" } : Jvm.MethodName)) ∈ lw_all := lw_g (lw_at lw_m10 52 rfl) rfl
theorem q2350 : (Jvm.Cond.code ({ cls := "SortingLoop", name := "sign", desc := "(LSortingLoop$Parcel;)C" } : Jvm.MethodName) prog_1_method_70_code (2 : Nat) (Option.some Jvm.ClassFile.FieldType.char)) ∈ lw_all := lw_g (lw_at lw_m10 53 rfl) rfl
theorem q2351 : (Jvm.Cond.methodLink "SortingLoop" (442 : Nat) ({ cls := "java/lang/StringBuilder", name := "append", desc := "(C)Ljava/lang/StringBuilder;" } : Jvm.MethodName)) ∈ lw_all := lw_g (lw_at lw_m10 54 rfl) rfl
theorem q2352 : (Jvm.Cond.methodLink "SortingLoop" (446 : Nat) ({ cls := "java/lang/StringBuilder", name := "length", desc := "()I" } : Jvm.MethodName)) ∈ lw_all := lw_g (lw_at lw_m10 55 rfl) rfl
theorem q2354 : (Jvm.Cond.instanceMethod ({ cls := "SortingLoop", name := "printChutes", desc := "()I" } : Jvm.MethodName)) ∈ lw_all := lw_g (lw_at lw_m10 57 rfl) rfl
theorem q2355 : (Jvm.Cond.selects "SortingLoop" ({ cls := "SortingLoop", name := "printChutes", desc := "()I" } : Jvm.MethodName) ({ cls := "SortingLoop", name := "printChutes", desc := "()I" } : Jvm.MethodName)) ∈ lw_all := lw_g (lw_at lw_m10 58 rfl) rfl
theorem q2356 : (Jvm.Cond.code ({ cls := "SortingLoop", name := "printChutes", desc := "()I" } : Jvm.MethodName) prog_1_method_72_code (6 : Nat) (Option.some Jvm.ClassFile.FieldType.int)) ∈ lw_all := lw_g (lw_at lw_m10 59 rfl) rfl
theorem q2357 : (Jvm.Cond.methodLink "SortingLoop" (449 : Nat) ({ cls := "java/lang/StringBuilder", name := "append", desc := "(I)Ljava/lang/StringBuilder;" } : Jvm.MethodName)) ∈ lw_all := lw_g (lw_at lw_m10 60 rfl) rfl
theorem q2358 : (Jvm.Cond.interfaceEntry "SortingLoop" (452 : Nat)) ∈ lw_tbl := lw_at lw_m10 61 rfl
theorem q2359 : (Jvm.Cond.methodLink "SortingLoop" (452 : Nat) ({ cls := "java/util/List", name := "iterator", desc := "()Ljava/util/Iterator;" } : Jvm.MethodName)) ∈ lw_all := lw_g (lw_at lw_m10 62 rfl) rfl
theorem q2360 : (Jvm.Cond.interfaceEntry "SortingLoop" (456 : Nat)) ∈ lw_tbl := lw_at lw_m10 63 rfl
theorem q2361 : (Jvm.Cond.methodLink "SortingLoop" (456 : Nat) ({ cls := "java/util/Iterator", name := "hasNext", desc := "()Z" } : Jvm.MethodName)) ∈ lw_all := lw_g (lw_at lw_m10 64 rfl) rfl
theorem q2362 : (Jvm.Cond.interfaceEntry "SortingLoop" (461 : Nat)) ∈ lw_tbl := lw_at lw_m10 65 rfl
theorem q2363 : (Jvm.Cond.methodLink "SortingLoop" (461 : Nat) ({ cls := "java/util/Iterator", name := "next", desc := "()Ljava/lang/Object;" } : Jvm.MethodName)) ∈ lw_all := lw_g (lw_at lw_m10 66 rfl) rfl
theorem q2365 : (Jvm.Cond.instanceMethod ({ cls := "SortingLoop", name := "outputByte", desc := "(I)I" } : Jvm.MethodName)) ∈ lw_all := lw_g (lw_at lw_m10 68 rfl) rfl
theorem q2366 : (Jvm.Cond.selects "SortingLoop" ({ cls := "SortingLoop", name := "outputByte", desc := "(I)I" } : Jvm.MethodName) ({ cls := "SortingLoop", name := "outputByte", desc := "(I)I" } : Jvm.MethodName)) ∈ lw_all := lw_g (lw_at lw_m10 69 rfl) rfl
theorem q2367 : (Jvm.Cond.code ({ cls := "SortingLoop", name := "outputByte", desc := "(I)I" } : Jvm.MethodName) prog_1_method_73_code (2 : Nat) (Option.some Jvm.ClassFile.FieldType.int)) ∈ lw_all := lw_g (lw_at lw_m10 70 rfl) rfl
theorem q2368 : (Jvm.Cond.methodLink "SortingLoop" (464 : Nat) ({ cls := "java/lang/StringBuilder", name := "charAt", desc := "(I)C" } : Jvm.MethodName)) ∈ lw_all := lw_g (lw_at lw_m10 71 rfl) rfl
theorem q2379 : (Jvm.Cond.instanceMethod ({ cls := "SortingLoop", name := "saveState", desc := "()I" } : Jvm.MethodName)) ∈ lw_all := lw_g (lw_at lw_m10 82 rfl) rfl
theorem q2380 : (Jvm.Cond.selects "SortingLoop" ({ cls := "SortingLoop", name := "saveState", desc := "()I" } : Jvm.MethodName) ({ cls := "SortingLoop", name := "saveState", desc := "()I" } : Jvm.MethodName)) ∈ lw_all := lw_g (lw_at lw_m10 83 rfl) rfl
theorem q2381 : (Jvm.Cond.code ({ cls := "SortingLoop", name := "saveState", desc := "()I" } : Jvm.MethodName) prog_1_method_74_code (1 : Nat) (Option.some Jvm.ClassFile.FieldType.int)) ∈ lw_all := lw_g (lw_at lw_m10 84 rfl) rfl
theorem q2387 : (Jvm.Cond.instanceMethod ({ cls := "SortingLoop", name := "count", desc := "(I)I" } : Jvm.MethodName)) ∈ lw_all := lw_g (lw_at lw_m10 90 rfl) rfl
theorem q2388 : (Jvm.Cond.selects "SortingLoop" ({ cls := "SortingLoop", name := "count", desc := "(I)I" } : Jvm.MethodName) ({ cls := "SortingLoop", name := "count", desc := "(I)I" } : Jvm.MethodName)) ∈ lw_all := lw_g (lw_at lw_m10 91 rfl) rfl
theorem q2389 : (Jvm.Cond.code ({ cls := "SortingLoop", name := "count", desc := "(I)I" } : Jvm.MethodName) prog_1_method_22_code (2 : Nat) (Option.some Jvm.ClassFile.FieldType.int)) ∈ lw_all := lw_g (lw_at lw_m10 92 rfl) rfl
theorem q2390 : (Jvm.Cond.methodLink "SortingLoop" (184 : Nat) ({ cls := "SortingLoop$Loop", name := "scannerMany", desc := "()I" } : Jvm.MethodName)) ∈ lw_all := lw_g (lw_at lw_m10 93 rfl) rfl
theorem q2391 : (Jvm.Cond.methodLink "SortingLoop" (197 : Nat) ({ cls := "SortingLoop", name := "untracked", desc := "()I" } : Jvm.MethodName)) ∈ lw_all := lw_g (lw_at lw_m10 94 rfl) rfl
theorem q2392 : (Jvm.Cond.privateMethod ({ cls := "SortingLoop", name := "untracked", desc := "()I" } : Jvm.MethodName)) ∈ lw_tbl := lw_at lw_m10 95 rfl
theorem q2393 : (Jvm.Cond.instanceMethod ({ cls := "SortingLoop", name := "untracked", desc := "()I" } : Jvm.MethodName)) ∈ lw_all := lw_g (lw_at lw_m10 96 rfl) rfl
theorem q2394 : (Jvm.Cond.code ({ cls := "SortingLoop", name := "untracked", desc := "()I" } : Jvm.MethodName) prog_1_method_20_code (3 : Nat) (Option.some Jvm.ClassFile.FieldType.int)) ∈ lw_all := lw_g (lw_at lw_m10 97 rfl) rfl
theorem q2395 : (Jvm.Cond.methodLink "SortingLoop" (161 : Nat) ({ cls := "SortingLoop$Parcel", name := "isOn", desc := "()Z" } : Jvm.MethodName)) ∈ lw_all := lw_g (lw_at lw_m10 98 rfl) rfl
theorem q2396 : (Jvm.Cond.methodLink "SortingLoop" (167 : Nat) ({ cls := "SortingLoop$Parcel", name := "isTracked", desc := "()Z" } : Jvm.MethodName)) ∈ lw_all := lw_g (lw_at lw_m10 99 rfl) rfl
theorem q2397 : (Jvm.Cond.methodLink "SortingLoop" (200 : Nat) ({ cls := "SortingLoop", name := "lagging", desc := "()I" } : Jvm.MethodName)) ∈ lw_all := lw_g (lw_at lw_m10 100 rfl) rfl
theorem q2398 : (Jvm.Cond.privateMethod ({ cls := "SortingLoop", name := "lagging", desc := "()I" } : Jvm.MethodName)) ∈ lw_tbl := lw_at lw_m10 101 rfl
theorem q2399 : (Jvm.Cond.instanceMethod ({ cls := "SortingLoop", name := "lagging", desc := "()I" } : Jvm.MethodName)) ∈ lw_all := lw_g (lw_at lw_m10 102 rfl) rfl
theorem q2400 : (Jvm.Cond.code ({ cls := "SortingLoop", name := "lagging", desc := "()I" } : Jvm.MethodName) prog_1_method_21_code (3 : Nat) (Option.some Jvm.ClassFile.FieldType.int)) ∈ lw_all := lw_g (lw_at lw_m10 103 rfl) rfl
theorem q2401 : (Jvm.Cond.classLink "SortingLoop" (7 : Nat) "java/lang/IllegalArgumentException") ∈ lw_all := lw_g (lw_at lw_m10 104 rfl) rfl
theorem q2402 : (Jvm.Cond.methodLink "SortingLoop" (9 : Nat) ({ cls := "java/lang/IllegalArgumentException", name := "<init>", desc := "()V" } : Jvm.MethodName)) ∈ lw_all := lw_g (lw_at lw_m10 105 rfl) rfl
theorem q2410 : (Jvm.Cond.instanceMethod ({ cls := "SortingLoop", name := "account", desc := "(I)I" } : Jvm.MethodName)) ∈ lw_all := lw_g (lw_at lw_m10 113 rfl) rfl
theorem q2411 : (Jvm.Cond.selects "SortingLoop" ({ cls := "SortingLoop", name := "account", desc := "(I)I" } : Jvm.MethodName) ({ cls := "SortingLoop", name := "account", desc := "(I)I" } : Jvm.MethodName)) ∈ lw_all := lw_g (lw_at lw_m10 114 rfl) rfl
theorem q2412 : (Jvm.Cond.code ({ cls := "SortingLoop", name := "account", desc := "(I)I" } : Jvm.MethodName) prog_1_method_23_code (2 : Nat) (Option.some Jvm.ClassFile.FieldType.int)) ∈ lw_all := lw_g (lw_at lw_m10 115 rfl) rfl
theorem q2413 : (Jvm.Cond.constantLong "SortingLoop" (204 : Nat) (11 : Int64)) ∈ lw_all := lw_g (lw_at lw_m10 116 rfl) rfl
theorem q2414 : (Jvm.Cond.methodLink "SortingLoop" (206 : Nat) ({ cls := "SortingLoop", name := "checkArgument", desc := "(Z)V" } : Jvm.MethodName)) ∈ lw_all := lw_g (lw_at lw_m10 117 rfl) rfl
theorem q2415 : (Jvm.Cond.static ({ cls := "SortingLoop", name := "checkArgument", desc := "(Z)V" } : Jvm.MethodName)) ∈ lw_all := lw_g (lw_at lw_m10 118 rfl) rfl
theorem q2416 : (Jvm.Cond.code ({ cls := "SortingLoop", name := "checkArgument", desc := "(Z)V" } : Jvm.MethodName) prog_1_method_3_code (1 : Nat) (Option.none : Option Jvm.ClassFile.FieldType)) ∈ lw_all := lw_g (lw_at lw_m10 119 rfl) rfl
theorem q2424 : (Jvm.Cond.instanceMethod ({ cls := "SortingLoop", name := "cell", desc := "(II)I" } : Jvm.MethodName)) ∈ lw_all := lw_g (lw_at lw_m10 127 rfl) rfl
theorem q2425 : (Jvm.Cond.selects "SortingLoop" ({ cls := "SortingLoop", name := "cell", desc := "(II)I" } : Jvm.MethodName) ({ cls := "SortingLoop", name := "cell", desc := "(II)I" } : Jvm.MethodName)) ∈ lw_all := lw_g (lw_at lw_m10 128 rfl) rfl
theorem q2426 : (Jvm.Cond.code ({ cls := "SortingLoop", name := "cell", desc := "(II)I" } : Jvm.MethodName) prog_1_method_28_code (3 : Nat) (Option.some Jvm.ClassFile.FieldType.int)) ∈ lw_all := lw_g (lw_at lw_m10 129 rfl) rfl
theorem q2427 : (Jvm.Cond.methodLink "SortingLoop" (224 : Nat) ({ cls := "SortingLoop", name := "checkCell", desc := "(I)V" } : Jvm.MethodName)) ∈ lw_all := lw_g (lw_at lw_m10 130 rfl) rfl
theorem q2428 : (Jvm.Cond.privateMethod ({ cls := "SortingLoop", name := "checkCell", desc := "(I)V" } : Jvm.MethodName)) ∈ lw_tbl := lw_at lw_m10 131 rfl
theorem q2429 : (Jvm.Cond.instanceMethod ({ cls := "SortingLoop", name := "checkCell", desc := "(I)V" } : Jvm.MethodName)) ∈ lw_all := lw_g (lw_at lw_m10 132 rfl) rfl
theorem q2430 : (Jvm.Cond.code ({ cls := "SortingLoop", name := "checkCell", desc := "(I)V" } : Jvm.MethodName) prog_1_method_24_code (2 : Nat) (Option.none : Option Jvm.ClassFile.FieldType)) ∈ lw_all := lw_g (lw_at lw_m10 133 rfl) rfl
theorem q2431 : (Jvm.Cond.methodLink "SortingLoop" (214 : Nat) ({ cls := "SortingLoop", name := "checkIndex", desc := "(Z)V" } : Jvm.MethodName)) ∈ lw_all := lw_g (lw_at lw_m10 134 rfl) rfl
theorem q2432 : (Jvm.Cond.static ({ cls := "SortingLoop", name := "checkIndex", desc := "(Z)V" } : Jvm.MethodName)) ∈ lw_all := lw_g (lw_at lw_m10 135 rfl) rfl
theorem q2433 : (Jvm.Cond.code ({ cls := "SortingLoop", name := "checkIndex", desc := "(Z)V" } : Jvm.MethodName) prog_1_method_2_code (1 : Nat) (Option.none : Option Jvm.ClassFile.FieldType)) ∈ lw_all := lw_g (lw_at lw_m10 136 rfl) rfl
theorem q2434 : (Jvm.Cond.classLink "SortingLoop" (1 : Nat) "java/lang/IndexOutOfBoundsException") ∈ lw_all := lw_g (lw_at lw_m10 137 rfl) rfl
theorem q2435 : (Jvm.Cond.methodLink "SortingLoop" (3 : Nat) ({ cls := "java/lang/IndexOutOfBoundsException", name := "<init>", desc := "()V" } : Jvm.MethodName)) ∈ lw_all := lw_g (lw_at lw_m10 138 rfl) rfl
theorem q2439 : (Jvm.Cond.methodLink "SortingLoop" (237 : Nat) ({ cls := "SortingLoop$Numbered", name := "of", desc := "(LSortingLoop$Numbered;)I" } : Jvm.MethodName)) ∈ lw_all := lw_g (lw_at lw_m10 142 rfl) rfl
theorem q2442 : (Jvm.Cond.methodLink "SortingLoop" (243 : Nat) ({ cls := "SortingLoop", name := "tracksAt", desc := "(I)I" } : Jvm.MethodName)) ∈ lw_all := lw_g (lw_at lw_m10 145 rfl) rfl
theorem q2443 : (Jvm.Cond.privateMethod ({ cls := "SortingLoop", name := "tracksAt", desc := "(I)I" } : Jvm.MethodName)) ∈ lw_tbl := lw_at lw_m10 146 rfl
theorem q2444 : (Jvm.Cond.instanceMethod ({ cls := "SortingLoop", name := "tracksAt", desc := "(I)I" } : Jvm.MethodName)) ∈ lw_all := lw_g (lw_at lw_m10 147 rfl) rfl
theorem q2445 : (Jvm.Cond.code ({ cls := "SortingLoop", name := "tracksAt", desc := "(I)I" } : Jvm.MethodName) prog_1_method_27_code (4 : Nat) (Option.some Jvm.ClassFile.FieldType.int)) ∈ lw_all := lw_g (lw_at lw_m10 148 rfl) rfl
theorem q2446 : (Jvm.Cond.methodLink "SortingLoop" (246 : Nat) ({ cls := "SortingLoop$Loop", name := "chuteAt", desc := "(I)I" } : Jvm.MethodName)) ∈ lw_all := lw_g (lw_at lw_m10 149 rfl) rfl
theorem q2451 : (Jvm.Cond.instanceMethod ({ cls := "SortingLoop", name := "parcel", desc := "(II)I" } : Jvm.MethodName)) ∈ lw_all := lw_g (lw_at lw_m10 154 rfl) rfl
theorem q2452 : (Jvm.Cond.selects "SortingLoop" ({ cls := "SortingLoop", name := "parcel", desc := "(II)I" } : Jvm.MethodName) ({ cls := "SortingLoop", name := "parcel", desc := "(II)I" } : Jvm.MethodName)) ∈ lw_all := lw_g (lw_at lw_m10 155 rfl) rfl
theorem q2453 : (Jvm.Cond.code ({ cls := "SortingLoop", name := "parcel", desc := "(II)I" } : Jvm.MethodName) prog_1_method_29_code (4 : Nat) (Option.some Jvm.ClassFile.FieldType.int)) ∈ lw_all := lw_g (lw_at lw_m10 156 rfl) rfl
theorem q2454 : (Jvm.Cond.methodLink "SortingLoop" (249 : Nat) ({ cls := "SortingLoop", name := "parcelAt", desc := "(I)LSortingLoop$Parcel;" } : Jvm.MethodName)) ∈ lw_all := lw_g (lw_at lw_m10 157 rfl) rfl
theorem q2455 : (Jvm.Cond.privateMethod ({ cls := "SortingLoop", name := "parcelAt", desc := "(I)LSortingLoop$Parcel;" } : Jvm.MethodName)) ∈ lw_tbl := lw_at lw_m10 158 rfl
theorem q2456 : (Jvm.Cond.instanceMethod ({ cls := "SortingLoop", name := "parcelAt", desc := "(I)LSortingLoop$Parcel;" } : Jvm.MethodName)) ∈ lw_all := lw_g (lw_at lw_m10 159 rfl) rfl
theorem q2457 : (Jvm.Cond.code ({ cls := "SortingLoop", name := "parcelAt", desc := "(I)LSortingLoop$Parcel;" } : Jvm.MethodName) prog_1_method_25_code (2 : Nat) (Option.some (Jvm.ClassFile.FieldType.object "SortingLoop$Parcel"))) ∈ lw_all := lw_g (lw_at lw_m10 160 rfl) rfl
theorem q2462 : (Jvm.Cond.instanceMethod ({ cls := "SortingLoop", name := "chute", desc := "(II)I" } : Jvm.MethodName)) ∈ lw_all := lw_g (lw_at lw_m10 165 rfl) rfl
theorem q2463 : (Jvm.Cond.selects "SortingLoop" ({ cls := "SortingLoop", name := "chute", desc := "(II)I" } : Jvm.MethodName) ({ cls := "SortingLoop", name := "chute", desc := "(II)I" } : Jvm.MethodName)) ∈ lw_all := lw_g (lw_at lw_m10 166 rfl) rfl
theorem q2464 : (Jvm.Cond.code ({ cls := "SortingLoop", name := "chute", desc := "(II)I" } : Jvm.MethodName) prog_1_method_31_code (4 : Nat) (Option.some Jvm.ClassFile.FieldType.int)) ∈ lw_all := lw_g (lw_at lw_m10 167 rfl) rfl
theorem q2465 : (Jvm.Cond.methodLink "SortingLoop" (272 : Nat) ({ cls := "SortingLoop", name := "chuteAt", desc := "(I)LSortingLoop$Chute;" } : Jvm.MethodName)) ∈ lw_all := lw_g (lw_at lw_m10 168 rfl) rfl
theorem q2466 : (Jvm.Cond.privateMethod ({ cls := "SortingLoop", name := "chuteAt", desc := "(I)LSortingLoop$Chute;" } : Jvm.MethodName)) ∈ lw_tbl := lw_at lw_m10 169 rfl
theorem q2467 : (Jvm.Cond.instanceMethod ({ cls := "SortingLoop", name := "chuteAt", desc := "(I)LSortingLoop$Chute;" } : Jvm.MethodName)) ∈ lw_all := lw_g (lw_at lw_m10 170 rfl) rfl
theorem q2468 : (Jvm.Cond.code ({ cls := "SortingLoop", name := "chuteAt", desc := "(I)LSortingLoop$Chute;" } : Jvm.MethodName) prog_1_method_26_code (2 : Nat) (Option.some (Jvm.ClassFile.FieldType.object "SortingLoop$Chute"))) ∈ lw_all := lw_g (lw_at lw_m10 171 rfl) rfl
theorem q2469 : (Jvm.Cond.methodLink "SortingLoop" (294 : Nat) ({ cls := "SortingLoop$Chute", name := "right", desc := "()I" } : Jvm.MethodName)) ∈ lw_all := lw_g (lw_at lw_m10 172 rfl) rfl
theorem q2481 : (Jvm.Cond.methodLink "SortingLoop" (300 : Nat) ({ cls := "SortingLoop", name := "comingTo", desc := "(I)I" } : Jvm.MethodName)) ∈ lw_all := lw_g (lw_at lw_m10 184 rfl) rfl
theorem q2482 : (Jvm.Cond.privateMethod ({ cls := "SortingLoop", name := "comingTo", desc := "(I)I" } : Jvm.MethodName)) ∈ lw_tbl := lw_at lw_m10 185 rfl
theorem q2483 : (Jvm.Cond.instanceMethod ({ cls := "SortingLoop", name := "comingTo", desc := "(I)I" } : Jvm.MethodName)) ∈ lw_all := lw_g (lw_at lw_m10 186 rfl) rfl
theorem q2484 : (Jvm.Cond.code ({ cls := "SortingLoop", name := "comingTo", desc := "(I)I" } : Jvm.MethodName) prog_1_method_30_code (4 : Nat) (Option.some Jvm.ClassFile.FieldType.int)) ∈ lw_all := lw_g (lw_at lw_m10 187 rfl) rfl
theorem q2489 : (Jvm.Cond.instanceMethod ({ cls := "SortingLoop", name := "held", desc := "(II)I" } : Jvm.MethodName)) ∈ lw_all := lw_g (lw_at lw_m10 192 rfl) rfl
theorem q2490 : (Jvm.Cond.selects "SortingLoop" ({ cls := "SortingLoop", name := "held", desc := "(II)I" } : Jvm.MethodName) ({ cls := "SortingLoop", name := "held", desc := "(II)I" } : Jvm.MethodName)) ∈ lw_all := lw_g (lw_at lw_m10 193 rfl) rfl
theorem q2491 : (Jvm.Cond.code ({ cls := "SortingLoop", name := "held", desc := "(II)I" } : Jvm.MethodName) prog_1_method_32_code (4 : Nat) (Option.some Jvm.ClassFile.FieldType.int)) ∈ lw_all := lw_g (lw_at lw_m10 194 rfl) rfl
theorem q2496 : (Jvm.Cond.instanceMethod ({ cls := "SortingLoop", name := "steps", desc := "(II)I" } : Jvm.MethodName)) ∈ lw_all := lw_g (lw_at lw_m10 199 rfl) rfl
theorem q2497 : (Jvm.Cond.selects "SortingLoop" ({ cls := "SortingLoop", name := "steps", desc := "(II)I" } : Jvm.MethodName) ({ cls := "SortingLoop", name := "steps", desc := "(II)I" } : Jvm.MethodName)) ∈ lw_all := lw_g (lw_at lw_m10 200 rfl) rfl
theorem q2498 : (Jvm.Cond.code ({ cls := "SortingLoop", name := "steps", desc := "(II)I" } : Jvm.MethodName) prog_1_method_33_code (3 : Nat) (Option.some Jvm.ClassFile.FieldType.int)) ∈ lw_all := lw_g (lw_at lw_m10 201 rfl) rfl
theorem q2499 : (Jvm.Cond.methodLink "SortingLoop" (306 : Nat) ({ cls := "SortingLoop$Loop", name := "steps", desc := "(II)I" } : Jvm.MethodName)) ∈ lw_all := lw_g (lw_at lw_m10 202 rfl) rfl
theorem q2504 : (Jvm.Cond.instanceMethod ({ cls := "SortingLoop", name := "toScanner", desc := "(I)I" } : Jvm.MethodName)) ∈ lw_all := lw_g (lw_at lw_m10 207 rfl) rfl
theorem q2505 : (Jvm.Cond.selects "SortingLoop" ({ cls := "SortingLoop", name := "toScanner", desc := "(I)I" } : Jvm.MethodName) ({ cls := "SortingLoop", name := "toScanner", desc := "(I)I" } : Jvm.MethodName)) ∈ lw_all := lw_g (lw_at lw_m10 208 rfl) rfl
theorem q2506 : (Jvm.Cond.code ({ cls := "SortingLoop", name := "toScanner", desc := "(I)I" } : Jvm.MethodName) prog_1_method_35_code (2 : Nat) (Option.some Jvm.ClassFile.FieldType.int)) ∈ lw_all := lw_g (lw_at lw_m10 209 rfl) rfl
theorem q2507 : (Jvm.Cond.methodLink "SortingLoop" (310 : Nat) ({ cls := "SortingLoop", name := "stepsToScanner", desc := "(LSortingLoop$Parcel;)I" } : Jvm.MethodName)) ∈ lw_all := lw_g (lw_at lw_m10 210 rfl) rfl
theorem q2508 : (Jvm.Cond.privateMethod ({ cls := "SortingLoop", name := "stepsToScanner", desc := "(LSortingLoop$Parcel;)I" } : Jvm.MethodName)) ∈ lw_tbl := lw_at lw_m10 211 rfl
theorem q2509 : (Jvm.Cond.instanceMethod ({ cls := "SortingLoop", name := "stepsToScanner", desc := "(LSortingLoop$Parcel;)I" } : Jvm.MethodName)) ∈ lw_all := lw_g (lw_at lw_m10 212 rfl) rfl
theorem q2510 : (Jvm.Cond.code ({ cls := "SortingLoop", name := "stepsToScanner", desc := "(LSortingLoop$Parcel;)I" } : Jvm.MethodName) prog_1_method_34_code (3 : Nat) (Option.some Jvm.ClassFile.FieldType.int)) ∈ lw_all := lw_g (lw_at lw_m10 213 rfl) rfl
theorem q2515 : (Jvm.Cond.instanceMethod ({ cls := "SortingLoop", name := "toChute", desc := "(I)I" } : Jvm.MethodName)) ∈ lw_all := lw_g (lw_at lw_m10 218 rfl) rfl
theorem q2516 : (Jvm.Cond.selects "SortingLoop" ({ cls := "SortingLoop", name := "toChute", desc := "(I)I" } : Jvm.MethodName) ({ cls := "SortingLoop", name := "toChute", desc := "(I)I" } : Jvm.MethodName)) ∈ lw_all := lw_g (lw_at lw_m10 219 rfl) rfl
theorem q2517 : (Jvm.Cond.code ({ cls := "SortingLoop", name := "toChute", desc := "(I)I" } : Jvm.MethodName) prog_1_method_37_code (2 : Nat) (Option.some Jvm.ClassFile.FieldType.int)) ∈ lw_all := lw_g (lw_at lw_m10 220 rfl) rfl
theorem q2518 : (Jvm.Cond.methodLink "SortingLoop" (313 : Nat) ({ cls := "SortingLoop", name := "stepsToChute", desc := "(LSortingLoop$Parcel;)I" } : Jvm.MethodName)) ∈ lw_all := lw_g (lw_at lw_m10 221 rfl) rfl
theorem q2519 : (Jvm.Cond.privateMethod ({ cls := "SortingLoop", name := "stepsToChute", desc := "(LSortingLoop$Parcel;)I" } : Jvm.MethodName)) ∈ lw_tbl := lw_at lw_m10 222 rfl
theorem q2520 : (Jvm.Cond.instanceMethod ({ cls := "SortingLoop", name := "stepsToChute", desc := "(LSortingLoop$Parcel;)I" } : Jvm.MethodName)) ∈ lw_all := lw_g (lw_at lw_m10 223 rfl) rfl
theorem q2521 : (Jvm.Cond.code ({ cls := "SortingLoop", name := "stepsToChute", desc := "(LSortingLoop$Parcel;)I" } : Jvm.MethodName) prog_1_method_36_code (3 : Nat) (Option.some Jvm.ClassFile.FieldType.int)) ∈ lw_all := lw_g (lw_at lw_m10 224 rfl) rfl
theorem q2526 : (Jvm.Cond.instanceMethod ({ cls := "SortingLoop", name := "why", desc := "(II)I" } : Jvm.MethodName)) ∈ lw_all := lw_g (lw_at lw_m10 229 rfl) rfl
theorem q2527 : (Jvm.Cond.selects "SortingLoop" ({ cls := "SortingLoop", name := "why", desc := "(II)I" } : Jvm.MethodName) ({ cls := "SortingLoop", name := "why", desc := "(II)I" } : Jvm.MethodName)) ∈ lw_all := lw_g (lw_at lw_m10 230 rfl) rfl
theorem q2528 : (Jvm.Cond.code ({ cls := "SortingLoop", name := "why", desc := "(II)I" } : Jvm.MethodName) prog_1_method_41_code (5 : Nat) (Option.some Jvm.ClassFile.FieldType.int)) ∈ lw_all := lw_g (lw_at lw_m10 231 rfl) rfl
theorem q2529 : (Jvm.Cond.constantLong "SortingLoop" (327 : Nat) (2 : Int64)) ∈ lw_all := lw_g (lw_at lw_m10 232 rfl) rfl
theorem q2530 : (Jvm.Cond.methodLink "SortingLoop" (329 : Nat) ({ cls := "SortingLoop", name := "reason", desc := "(LSortingLoop$Parcel;)I" } : Jvm.MethodName)) ∈ lw_all := lw_g (lw_at lw_m10 233 rfl) rfl
theorem q2531 : (Jvm.Cond.privateMethod ({ cls := "SortingLoop", name := "reason", desc := "(LSortingLoop$Parcel;)I" } : Jvm.MethodName)) ∈ lw_tbl := lw_at lw_m10 234 rfl
theorem q2532 : (Jvm.Cond.instanceMethod ({ cls := "SortingLoop", name := "reason", desc := "(LSortingLoop$Parcel;)I" } : Jvm.MethodName)) ∈ lw_all := lw_g (lw_at lw_m10 235 rfl) rfl
theorem q2533 : (Jvm.Cond.code ({ cls := "SortingLoop", name := "reason", desc := "(LSortingLoop$Parcel;)I" } : Jvm.MethodName) prog_1_method_38_code (2 : Nat) (Option.some Jvm.ClassFile.FieldType.int)) ∈ lw_all := lw_g (lw_at lw_m10 236 rfl) rfl
theorem q2534 : (Jvm.Cond.methodLink "SortingLoop" (316 : Nat) ({ cls := "SortingLoop$Parcel", name := "isSorted", desc := "()Z" } : Jvm.MethodName)) ∈ lw_all := lw_g (lw_at lw_m10 237 rfl) rfl
theorem q2538 : (Jvm.Cond.methodLink "SortingLoop" (319 : Nat) ({ cls := "SortingLoop$Chute", name := "canTake", desc := "()Z" } : Jvm.MethodName)) ∈ lw_all := lw_g (lw_at lw_m11 1 rfl) rfl
theorem q2539 : (Jvm.Cond.methodLink "SortingLoop" (332 : Nat) ({ cls := "SortingLoop", name := "cause", desc := "(LSortingLoop$Parcel;I)I" } : Jvm.MethodName)) ∈ lw_all := lw_g (lw_at lw_m11 2 rfl) rfl
theorem q2540 : (Jvm.Cond.privateMethod ({ cls := "SortingLoop", name := "cause", desc := "(LSortingLoop$Parcel;I)I" } : Jvm.MethodName)) ∈ lw_tbl := lw_at lw_m11 3 rfl
theorem q2541 : (Jvm.Cond.instanceMethod ({ cls := "SortingLoop", name := "cause", desc := "(LSortingLoop$Parcel;I)I" } : Jvm.MethodName)) ∈ lw_all := lw_g (lw_at lw_m11 4 rfl) rfl
theorem q2542 : (Jvm.Cond.code ({ cls := "SortingLoop", name := "cause", desc := "(LSortingLoop$Parcel;I)I" } : Jvm.MethodName) prog_1_method_39_code (3 : Nat) (Option.some Jvm.ClassFile.FieldType.int)) ∈ lw_all := lw_g (lw_at lw_m11 5 rfl) rfl
theorem q2543 : (Jvm.Cond.methodLink "SortingLoop" (322 : Nat) ({ cls := "java/lang/Math", name := "max", desc := "(II)I" } : Jvm.MethodName)) ∈ lw_all := lw_g (lw_at lw_m11 6 rfl) rfl
theorem q2544 : (Jvm.Cond.methodLink "SortingLoop" (336 : Nat) ({ cls := "SortingLoop", name := "deeper", desc := "(LSortingLoop$Parcel;I)I" } : Jvm.MethodName)) ∈ lw_all := lw_g (lw_at lw_m11 7 rfl) rfl
theorem q2545 : (Jvm.Cond.privateMethod ({ cls := "SortingLoop", name := "deeper", desc := "(LSortingLoop$Parcel;I)I" } : Jvm.MethodName)) ∈ lw_tbl := lw_at lw_m11 8 rfl
theorem q2546 : (Jvm.Cond.instanceMethod ({ cls := "SortingLoop", name := "deeper", desc := "(LSortingLoop$Parcel;I)I" } : Jvm.MethodName)) ∈ lw_all := lw_g (lw_at lw_m11 9 rfl) rfl
theorem q2547 : (Jvm.Cond.code ({ cls := "SortingLoop", name := "deeper", desc := "(LSortingLoop$Parcel;I)I" } : Jvm.MethodName) prog_1_method_40_code (3 : Nat) (Option.some Jvm.ClassFile.FieldType.int)) ∈ lw_all := lw_g (lw_at lw_m11 10 rfl) rfl
theorem q2552 : (Jvm.Cond.instanceMethod ({ cls := "SortingLoop", name := "whyNoSlip", desc := "(I)I" } : Jvm.MethodName)) ∈ lw_all := lw_g (lw_at lw_m11 15 rfl) rfl
theorem q2553 : (Jvm.Cond.selects "SortingLoop" ({ cls := "SortingLoop", name := "whyNoSlip", desc := "(I)I" } : Jvm.MethodName) ({ cls := "SortingLoop", name := "whyNoSlip", desc := "(I)I" } : Jvm.MethodName)) ∈ lw_all := lw_g (lw_at lw_m11 16 rfl) rfl
theorem q2554 : (Jvm.Cond.code ({ cls := "SortingLoop", name := "whyNoSlip", desc := "(I)I" } : Jvm.MethodName) prog_1_method_43_code (2 : Nat) (Option.some Jvm.ClassFile.FieldType.int)) ∈ lw_all := lw_g (lw_at lw_m11 17 rfl) rfl
theorem q2555 : (Jvm.Cond.methodLink "SortingLoop" (342 : Nat) ({ cls := "SortingLoop$Loop", name := "againstSlip", desc := "(LSortingLoop$Parcel;)I" } : Jvm.MethodName)) ∈ lw_all := lw_g (lw_at lw_m11 18 rfl) rfl
theorem q2560 : (Jvm.Cond.instanceMethod ({ cls := "SortingLoop", name := "leavesIn", desc := "(I)I" } : Jvm.MethodName)) ∈ lw_all := lw_g (lw_at lw_m11 23 rfl) rfl
theorem q2561 : (Jvm.Cond.selects "SortingLoop" ({ cls := "SortingLoop", name := "leavesIn", desc := "(I)I" } : Jvm.MethodName) ({ cls := "SortingLoop", name := "leavesIn", desc := "(I)I" } : Jvm.MethodName)) ∈ lw_all := lw_g (lw_at lw_m11 24 rfl) rfl
theorem q2562 : (Jvm.Cond.code ({ cls := "SortingLoop", name := "leavesIn", desc := "(I)I" } : Jvm.MethodName) prog_1_method_46_code (6 : Nat) (Option.some Jvm.ClassFile.FieldType.int)) ∈ lw_all := lw_g (lw_at lw_m11 25 rfl) rfl
theorem q2567 : (Jvm.Cond.instanceMethod ({ cls := "SortingLoop", name := "endsAs", desc := "(II)I" } : Jvm.MethodName)) ∈ lw_all := lw_g (lw_at lw_m11 30 rfl) rfl
theorem q2568 : (Jvm.Cond.selects "SortingLoop" ({ cls := "SortingLoop", name := "endsAs", desc := "(II)I" } : Jvm.MethodName) ({ cls := "SortingLoop", name := "endsAs", desc := "(II)I" } : Jvm.MethodName)) ∈ lw_all := lw_g (lw_at lw_m11 31 rfl) rfl
theorem q2569 : (Jvm.Cond.code ({ cls := "SortingLoop", name := "endsAs", desc := "(II)I" } : Jvm.MethodName) prog_1_method_48_code (6 : Nat) (Option.some Jvm.ClassFile.FieldType.int)) ∈ lw_all := lw_g (lw_at lw_m11 32 rfl) rfl
theorem q2570 : (Jvm.Cond.methodLink "SortingLoop" (357 : Nat) ({ cls := "SortingLoop", name := "checkTicks", desc := "(I)V" } : Jvm.MethodName)) ∈ lw_all := lw_g (lw_at lw_m11 33 rfl) rfl
theorem q2571 : (Jvm.Cond.static ({ cls := "SortingLoop", name := "checkTicks", desc := "(I)V" } : Jvm.MethodName)) ∈ lw_all := lw_g (lw_at lw_m11 34 rfl) rfl
theorem q2572 : (Jvm.Cond.code ({ cls := "SortingLoop", name := "checkTicks", desc := "(I)V" } : Jvm.MethodName) prog_1_method_44_code (1 : Nat) (Option.none : Option Jvm.ClassFile.FieldType)) ∈ lw_all := lw_g (lw_at lw_m11 35 rfl) rfl
theorem q2573 : (Jvm.Cond.constantLong "SortingLoop" (345 : Nat) (500 : Int64)) ∈ lw_all := lw_g (lw_at lw_m11 36 rfl) rfl
theorem q2574 : (Jvm.Cond.methodLink "SortingLoop" (360 : Nat) ({ cls := "SortingLoop$Loop", name := "goes", desc := "(I)I" } : Jvm.MethodName)) ∈ lw_all := lw_g (lw_at lw_m11 37 rfl) rfl
theorem q2575 : (Jvm.Cond.methodLink "SortingLoop" (363 : Nat) ({ cls := "SortingLoop", name := "ending", desc := "(LSortingLoop$Parcel;)I" } : Jvm.MethodName)) ∈ lw_all := lw_g (lw_at lw_m11 38 rfl) rfl
theorem q2576 : (Jvm.Cond.static ({ cls := "SortingLoop", name := "ending", desc := "(LSortingLoop$Parcel;)I" } : Jvm.MethodName)) ∈ lw_all := lw_g (lw_at lw_m11 39 rfl) rfl
theorem q2577 : (Jvm.Cond.code ({ cls := "SortingLoop", name := "ending", desc := "(LSortingLoop$Parcel;)I" } : Jvm.MethodName) prog_1_method_47_code (1 : Nat) (Option.some Jvm.ClassFile.FieldType.int)) ∈ lw_all := lw_g (lw_at lw_m11 40 rfl) rfl
theorem q2582 : (Jvm.Cond.instanceMethod ({ cls := "SortingLoop", name := "heldIn", desc := "(II)I" } : Jvm.MethodName)) ∈ lw_all := lw_g (lw_at lw_m11 45 rfl) rfl
theorem q2583 : (Jvm.Cond.selects "SortingLoop" ({ cls := "SortingLoop", name := "heldIn", desc := "(II)I" } : Jvm.MethodName) ({ cls := "SortingLoop", name := "heldIn", desc := "(II)I" } : Jvm.MethodName)) ∈ lw_all := lw_g (lw_at lw_m11 46 rfl) rfl
theorem q2584 : (Jvm.Cond.code ({ cls := "SortingLoop", name := "heldIn", desc := "(II)I" } : Jvm.MethodName) prog_1_method_49_code (6 : Nat) (Option.some Jvm.ClassFile.FieldType.int)) ∈ lw_all := lw_g (lw_at lw_m11 47 rfl) rfl
theorem q2589 : (Jvm.Cond.instanceMethod ({ cls := "SortingLoop", name := "growsIn", desc := "(II)I" } : Jvm.MethodName)) ∈ lw_all := lw_g (lw_at lw_m11 52 rfl) rfl
theorem q2590 : (Jvm.Cond.selects "SortingLoop" ({ cls := "SortingLoop", name := "growsIn", desc := "(II)I" } : Jvm.MethodName) ({ cls := "SortingLoop", name := "growsIn", desc := "(II)I" } : Jvm.MethodName)) ∈ lw_all := lw_g (lw_at lw_m11 53 rfl) rfl
theorem q2591 : (Jvm.Cond.code ({ cls := "SortingLoop", name := "growsIn", desc := "(II)I" } : Jvm.MethodName) prog_1_method_50_code (5 : Nat) (Option.some Jvm.ClassFile.FieldType.int)) ∈ lw_all := lw_g (lw_at lw_m11 54 rfl) rfl
theorem q2596 : (Jvm.Cond.instanceMethod ({ cls := "SortingLoop", name := "gainOf", desc := "(II)I" } : Jvm.MethodName)) ∈ lw_all := lw_g (lw_at lw_m11 59 rfl) rfl
theorem q2597 : (Jvm.Cond.selects "SortingLoop" ({ cls := "SortingLoop", name := "gainOf", desc := "(II)I" } : Jvm.MethodName) ({ cls := "SortingLoop", name := "gainOf", desc := "(II)I" } : Jvm.MethodName)) ∈ lw_all := lw_g (lw_at lw_m11 60 rfl) rfl
theorem q2598 : (Jvm.Cond.code ({ cls := "SortingLoop", name := "gainOf", desc := "(II)I" } : Jvm.MethodName) prog_1_method_52_code (4 : Nat) (Option.some Jvm.ClassFile.FieldType.int)) ∈ lw_all := lw_g (lw_at lw_m11 61 rfl) rfl
theorem q2599 : (Jvm.Cond.methodLink "SortingLoop" (374 : Nat) ({ cls := "SortingLoop", name := "sortedIf", desc := "(II)I" } : Jvm.MethodName)) ∈ lw_all := lw_g (lw_at lw_m11 62 rfl) rfl
theorem q2600 : (Jvm.Cond.privateMethod ({ cls := "SortingLoop", name := "sortedIf", desc := "(II)I" } : Jvm.MethodName)) ∈ lw_tbl := lw_at lw_m11 63 rfl
theorem q2601 : (Jvm.Cond.instanceMethod ({ cls := "SortingLoop", name := "sortedIf", desc := "(II)I" } : Jvm.MethodName)) ∈ lw_all := lw_g (lw_at lw_m11 64 rfl) rfl
theorem q2602 : (Jvm.Cond.code ({ cls := "SortingLoop", name := "sortedIf", desc := "(II)I" } : Jvm.MethodName) prog_1_method_51_code (5 : Nat) (Option.some Jvm.ClassFile.FieldType.int)) ∈ lw_all := lw_g (lw_at lw_m11 65 rfl) rfl
theorem q2603 : (Jvm.Cond.methodLink "SortingLoop" (366 : Nat) ({ cls := "SortingLoop$Loop", name := "empties", desc := "(LSortingLoop$Chute;)I" } : Jvm.MethodName)) ∈ lw_all := lw_g (lw_at lw_m11 66 rfl) rfl
theorem q2604 : (Jvm.Cond.methodLink "SortingLoop" (370 : Nat) ({ cls := "SortingLoop$Loop", name := "opens", desc := "(LSortingLoop$Chute;Z)I" } : Jvm.MethodName)) ∈ lw_all := lw_g (lw_at lw_m11 67 rfl) rfl
theorem q2609 : (Jvm.Cond.instanceMethod ({ cls := "SortingLoop", name := "bestEmpty", desc := "(I)I" } : Jvm.MethodName)) ∈ lw_all := lw_g (lw_at lw_m11 72 rfl) rfl
theorem q2610 : (Jvm.Cond.selects "SortingLoop" ({ cls := "SortingLoop", name := "bestEmpty", desc := "(I)I" } : Jvm.MethodName) ({ cls := "SortingLoop", name := "bestEmpty", desc := "(I)I" } : Jvm.MethodName)) ∈ lw_all := lw_g (lw_at lw_m11 73 rfl) rfl
theorem q2611 : (Jvm.Cond.code ({ cls := "SortingLoop", name := "bestEmpty", desc := "(I)I" } : Jvm.MethodName) prog_1_method_53_code (6 : Nat) (Option.some Jvm.ClassFile.FieldType.int)) ∈ lw_all := lw_g (lw_at lw_m11 74 rfl) rfl
theorem q2616 : (Jvm.Cond.instanceMethod ({ cls := "SortingLoop", name := "missortsIf", desc := "(III)I" } : Jvm.MethodName)) ∈ lw_all := lw_g (lw_at lw_m11 79 rfl) rfl
theorem q2617 : (Jvm.Cond.selects "SortingLoop" ({ cls := "SortingLoop", name := "missortsIf", desc := "(III)I" } : Jvm.MethodName) ({ cls := "SortingLoop", name := "missortsIf", desc := "(III)I" } : Jvm.MethodName)) ∈ lw_all := lw_g (lw_at lw_m11 80 rfl) rfl
theorem q2618 : (Jvm.Cond.code ({ cls := "SortingLoop", name := "missortsIf", desc := "(III)I" } : Jvm.MethodName) prog_1_method_54_code (8 : Nat) (Option.some Jvm.ClassFile.FieldType.int)) ∈ lw_all := lw_g (lw_at lw_m11 81 rfl) rfl
theorem q2619 : (Jvm.Cond.constantLong "SortingLoop" (377 : Nat) (3 : Int64)) ∈ lw_all := lw_g (lw_at lw_m11 82 rfl) rfl
theorem q2620 : (Jvm.Cond.methodLink "SortingLoop" (379 : Nat) ({ cls := "SortingLoop$Loop", name := "sets", desc := "(II)I" } : Jvm.MethodName)) ∈ lw_all := lw_g (lw_at lw_m11 83 rfl) rfl
theorem q2626 : (Jvm.Cond.instanceMethod ({ cls := "SortingLoop", name := "put", desc := "(II)I" } : Jvm.MethodName)) ∈ lw_all := lw_g (lw_at lw_m11 89 rfl) rfl
theorem q2627 : (Jvm.Cond.selects "SortingLoop" ({ cls := "SortingLoop", name := "put", desc := "(II)I" } : Jvm.MethodName) ({ cls := "SortingLoop", name := "put", desc := "(II)I" } : Jvm.MethodName)) ∈ lw_all := lw_g (lw_at lw_m11 90 rfl) rfl
theorem q2628 : (Jvm.Cond.code ({ cls := "SortingLoop", name := "put", desc := "(II)I" } : Jvm.MethodName) prog_1_method_63_code (4 : Nat) (Option.some Jvm.ClassFile.FieldType.int)) ∈ lw_all := lw_g (lw_at lw_m11 91 rfl) rfl
theorem q2629 : (Jvm.Cond.constantLong "SortingLoop" (411 : Nat) (5 : Int64)) ∈ lw_all := lw_g (lw_at lw_m11 92 rfl) rfl
theorem q2630 : (Jvm.Cond.methodLink "SortingLoop" (413 : Nat) ({ cls := "SortingLoop", name := "checkState", desc := "(Z)V" } : Jvm.MethodName)) ∈ lw_all := lw_g (lw_at lw_m11 93 rfl) rfl
theorem q2631 : (Jvm.Cond.static ({ cls := "SortingLoop", name := "checkState", desc := "(Z)V" } : Jvm.MethodName)) ∈ lw_all := lw_g (lw_at lw_m11 94 rfl) rfl
theorem q2632 : (Jvm.Cond.code ({ cls := "SortingLoop", name := "checkState", desc := "(Z)V" } : Jvm.MethodName) prog_1_method_4_code (1 : Nat) (Option.none : Option Jvm.ClassFile.FieldType)) ∈ lw_all := lw_g (lw_at lw_m11 95 rfl) rfl
theorem q2633 : (Jvm.Cond.classLink "SortingLoop" (10 : Nat) "java/lang/IllegalStateException") ∈ lw_all := lw_g (lw_at lw_m11 96 rfl) rfl
theorem q2634 : (Jvm.Cond.methodLink "SortingLoop" (12 : Nat) ({ cls := "java/lang/IllegalStateException", name := "<init>", desc := "()V" } : Jvm.MethodName)) ∈ lw_all := lw_g (lw_at lw_m11 97 rfl) rfl
theorem q2638 : (Jvm.Cond.methodLink "SortingLoop" (416 : Nat) ({ cls := "SortingLoop$Loop", name := "puts", desc := "(II)I" } : Jvm.MethodName)) ∈ lw_all := lw_g (lw_at lw_m11 101 rfl) rfl
theorem q2643 : (Jvm.Cond.instanceMethod ({ cls := "SortingLoop", name := "tick", desc := "(I)I" } : Jvm.MethodName)) ∈ lw_all := lw_g (lw_at lw_m11 106 rfl) rfl
theorem q2644 : (Jvm.Cond.selects "SortingLoop" ({ cls := "SortingLoop", name := "tick", desc := "(I)I" } : Jvm.MethodName) ({ cls := "SortingLoop", name := "tick", desc := "(I)I" } : Jvm.MethodName)) ∈ lw_all := lw_g (lw_at lw_m11 107 rfl) rfl
theorem q2645 : (Jvm.Cond.code ({ cls := "SortingLoop", name := "tick", desc := "(I)I" } : Jvm.MethodName) prog_1_method_64_code (2 : Nat) (Option.some Jvm.ClassFile.FieldType.int)) ∈ lw_all := lw_g (lw_at lw_m11 108 rfl) rfl
theorem q2650 : (Jvm.Cond.instanceMethod ({ cls := "SortingLoop", name := "slip", desc := "(I)I" } : Jvm.MethodName)) ∈ lw_all := lw_g (lw_at lw_m11 113 rfl) rfl
theorem q2651 : (Jvm.Cond.selects "SortingLoop" ({ cls := "SortingLoop", name := "slip", desc := "(I)I" } : Jvm.MethodName) ({ cls := "SortingLoop", name := "slip", desc := "(I)I" } : Jvm.MethodName)) ∈ lw_all := lw_g (lw_at lw_m11 114 rfl) rfl
theorem q2652 : (Jvm.Cond.code ({ cls := "SortingLoop", name := "slip", desc := "(I)I" } : Jvm.MethodName) prog_1_method_65_code (3 : Nat) (Option.some Jvm.ClassFile.FieldType.int)) ∈ lw_all := lw_g (lw_at lw_m11 115 rfl) rfl
theorem q2653 : (Jvm.Cond.methodLink "SortingLoop" (419 : Nat) ({ cls := "SortingLoop$Loop", name := "slips", desc := "(LSortingLoop$Parcel;)I" } : Jvm.MethodName)) ∈ lw_all := lw_g (lw_at lw_m11 116 rfl) rfl
theorem q2658 : (Jvm.Cond.instanceMethod ({ cls := "SortingLoop", name := "empty", desc := "(I)I" } : Jvm.MethodName)) ∈ lw_all := lw_g (lw_at lw_m11 121 rfl) rfl
theorem q2659 : (Jvm.Cond.selects "SortingLoop" ({ cls := "SortingLoop", name := "empty", desc := "(I)I" } : Jvm.MethodName) ({ cls := "SortingLoop", name := "empty", desc := "(I)I" } : Jvm.MethodName)) ∈ lw_all := lw_g (lw_at lw_m11 122 rfl) rfl
theorem q2660 : (Jvm.Cond.code ({ cls := "SortingLoop", name := "empty", desc := "(I)I" } : Jvm.MethodName) prog_1_method_66_code (4 : Nat) (Option.some Jvm.ClassFile.FieldType.int)) ∈ lw_all := lw_g (lw_at lw_m11 123 rfl) rfl
theorem q2665 : (Jvm.Cond.instanceMethod ({ cls := "SortingLoop", name := "shut", desc := "(IZ)I" } : Jvm.MethodName)) ∈ lw_all := lw_g (lw_at lw_m11 128 rfl) rfl
theorem q2666 : (Jvm.Cond.selects "SortingLoop" ({ cls := "SortingLoop", name := "shut", desc := "(IZ)I" } : Jvm.MethodName) ({ cls := "SortingLoop", name := "shut", desc := "(IZ)I" } : Jvm.MethodName)) ∈ lw_all := lw_g (lw_at lw_m11 129 rfl) rfl
theorem q2667 : (Jvm.Cond.code ({ cls := "SortingLoop", name := "shut", desc := "(IZ)I" } : Jvm.MethodName) prog_1_method_67_code (5 : Nat) (Option.some Jvm.ClassFile.FieldType.int)) ∈ lw_all := lw_g (lw_at lw_m11 130 rfl) rfl
theorem q2672 : (Jvm.Cond.instanceMethod ({ cls := "SortingLoop", name := "set", desc := "(II)I" } : Jvm.MethodName)) ∈ lw_all := lw_g (lw_at lw_m11 135 rfl) rfl
theorem q2673 : (Jvm.Cond.selects "SortingLoop" ({ cls := "SortingLoop", name := "set", desc := "(II)I" } : Jvm.MethodName) ({ cls := "SortingLoop", name := "set", desc := "(II)I" } : Jvm.MethodName)) ∈ lw_all := lw_g (lw_at lw_m11 136 rfl) rfl
theorem q2674 : (Jvm.Cond.code ({ cls := "SortingLoop", name := "set", desc := "(II)I" } : Jvm.MethodName) prog_1_method_68_code (3 : Nat) (Option.some Jvm.ClassFile.FieldType.int)) ∈ lw_all := lw_g (lw_at lw_m11 137 rfl) rfl
theorem q2675 : (Jvm.Cond.constantLong "SortingLoop" (422 : Nat) (-1 : Int64)) ∈ lw_all := lw_g (lw_at lw_m11 138 rfl) rfl
theorem q2676 : (Jvm.Cond.constantLong "SortingLoop" (424 : Nat) (9 : Int64)) ∈ lw_all := lw_g (lw_at lw_m11 139 rfl) rfl
theorem q2682 : (Jvm.Cond.instanceMethod ({ cls := "SortingLoop", name := "undo", desc := "()I" } : Jvm.MethodName)) ∈ lw_all := lw_g (lw_at lw_m11 145 rfl) rfl
theorem q2683 : (Jvm.Cond.selects "SortingLoop" ({ cls := "SortingLoop", name := "undo", desc := "()I" } : Jvm.MethodName) ({ cls := "SortingLoop", name := "undo", desc := "()I" } : Jvm.MethodName)) ∈ lw_all := lw_g (lw_at lw_m11 146 rfl) rfl
theorem q2684 : (Jvm.Cond.code ({ cls := "SortingLoop", name := "undo", desc := "()I" } : Jvm.MethodName) prog_1_method_69_code (1 : Nat) (Option.some Jvm.ClassFile.FieldType.int)) ∈ lw_all := lw_g (lw_at lw_m11 147 rfl) rfl
theorem q2685 : (Jvm.Cond.methodLink "SortingLoop" (426 : Nat) ({ cls := "java/util/ArrayDeque", name := "isEmpty", desc := "()Z" } : Jvm.MethodName)) ∈ lw_all := lw_g (lw_at lw_m11 148 rfl) rfl
theorem q2689 : (Jvm.Cond.methodLink "SortingLoop" (429 : Nat) ({ cls := "SortingLoop", name := "checkElement", desc := "(Z)V" } : Jvm.MethodName)) ∈ lw_all := lw_g (lw_at lw_m11 152 rfl) rfl
theorem q2690 : (Jvm.Cond.static ({ cls := "SortingLoop", name := "checkElement", desc := "(Z)V" } : Jvm.MethodName)) ∈ lw_all := lw_g (lw_at lw_m11 153 rfl) rfl
theorem q2691 : (Jvm.Cond.code ({ cls := "SortingLoop", name := "checkElement", desc := "(Z)V" } : Jvm.MethodName) prog_1_method_5_code (1 : Nat) (Option.none : Option Jvm.ClassFile.FieldType)) ∈ lw_all := lw_g (lw_at lw_m11 154 rfl) rfl
theorem q2692 : (Jvm.Cond.classLink "SortingLoop" (13 : Nat) "java/util/NoSuchElementException") ∈ lw_all := lw_g (lw_at lw_m11 155 rfl) rfl
theorem q2693 : (Jvm.Cond.methodLink "SortingLoop" (15 : Nat) ({ cls := "java/util/NoSuchElementException", name := "<init>", desc := "()V" } : Jvm.MethodName)) ∈ lw_all := lw_g (lw_at lw_m11 156 rfl) rfl
theorem q2694 : (Jvm.Cond.methodLink "SortingLoop" (432 : Nat) ({ cls := "java/util/ArrayDeque", name := "removeLast", desc := "()Ljava/lang/Object;" } : Jvm.MethodName)) ∈ lw_all := lw_g (lw_at lw_m11 157 rfl) rfl
theorem q2709 : (Jvm.Cond.instanceMethod ({ cls := "SortingLoop", name := "restoreState", desc := "()I" } : Jvm.MethodName)) ∈ lw_all := lw_g (lw_at lw_m11 172 rfl) rfl
theorem q2710 : (Jvm.Cond.selects "SortingLoop" ({ cls := "SortingLoop", name := "restoreState", desc := "()I" } : Jvm.MethodName) ({ cls := "SortingLoop", name := "restoreState", desc := "()I" } : Jvm.MethodName)) ∈ lw_all := lw_g (lw_at lw_m11 173 rfl) rfl
theorem q2711 : (Jvm.Cond.code ({ cls := "SortingLoop", name := "restoreState", desc := "()I" } : Jvm.MethodName) prog_1_method_75_code (1 : Nat) (Option.some Jvm.ClassFile.FieldType.int)) ∈ lw_all := lw_g (lw_at lw_m11 174 rfl) rfl
theorem q3356 : (Jvm.Cond.castable "SortingLoop" "java/lang/Object") ∈ lw_tbl := lw_at lw_m14 99 rfl
theorem in_X1 : ∀ w ∈ wsX10, w ∈ lw_all := lw_in wsX10 [1334, 1336, 1338, 1340, 1342, 1344, 1346, 1348, 1350] (by decide +kernel) (by decide +kernel)

