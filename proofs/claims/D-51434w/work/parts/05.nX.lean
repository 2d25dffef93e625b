/-! SortingLoopLaw -/
set_option maxRecDepth 100000
def RX0 : String := "SortingLoopLaw"
abbrev cX0_count : ByteArray := method_3_code
def yX0_count : MethodName := ⟨RX0, "count", "(LSortingLoop;I[J)I"⟩
def dkwX0_count_0 : List UInt8 := [44, 3, 42, 27, 182, 0, 7, 133, 80, 167, 0, 6, 78, 4, 172, 3, 172]
abbrev dktX0_count_0 : List UInt8 := dkwX0_count_0 ++ []
theorem dksX0_count_0 : cX0_count.data.toList.drop 0 = dktX0_count_0 := by decide +kernel
theorem dX0_count_0 : decode cX0_count 0 = .ok (.aload_n 2, 1) := dk_44 (dk_at dksX0_count_0 0 rfl rfl)
theorem dX0_count_1 : decode cX0_count 1 = .ok (.iconst 0, 1) := dk_3 (dk_at dksX0_count_0 1 rfl rfl)
theorem dX0_count_2 : decode cX0_count 2 = .ok (.aload_n 0, 1) := dk_42 (dk_at dksX0_count_0 2 rfl rfl)
theorem dX0_count_3 : decode cX0_count 3 = .ok (.iload_n 1, 1) := dk_27 (dk_at dksX0_count_0 3 rfl rfl)
theorem dX0_count_4 : decode cX0_count 4 = .ok (.invokevirtual 7, 3) := dk_182 0 7 (dk_at dksX0_count_0 4 rfl rfl)
theorem dX0_count_7 : decode cX0_count 7 = .ok (.i2l, 1) := dk_133 (dk_at dksX0_count_0 7 rfl rfl)
theorem dX0_count_8 : decode cX0_count 8 = .ok (.lastore, 1) := dk_80 (dk_at dksX0_count_0 8 rfl rfl)
theorem dX0_count_9 : decode cX0_count 9 = .ok (.goto 6, 3) := dk_167 0 6 (dk_at dksX0_count_0 9 rfl rfl)
theorem dX0_count_12 : decode cX0_count 12 = .ok (.astore_n 3, 1) := dk_78 (dk_at dksX0_count_0 12 rfl rfl)
theorem dX0_count_13 : decode cX0_count 13 = .ok (.iconst 1, 1) := dk_4 (dk_at dksX0_count_0 13 rfl rfl)
theorem dX0_count_14 : decode cX0_count 14 = .ok (.ireturn, 1) := dk_172 (dk_at dksX0_count_0 14 rfl rfl)
theorem dX0_count_15 : decode cX0_count 15 = .ok (.iconst 0, 1) := dk_3 (dk_at dksX0_count_0 15 rfl rfl)
theorem dX0_count_16 : decode cX0_count 16 = .ok (.ireturn, 1) := dk_172 (dk_at dksX0_count_0 16 rfl rfl)
abbrev cX0_account : ByteArray := method_4_code
def yX0_account : MethodName := ⟨RX0, "account", "(LSortingLoop;I[J)I"⟩
def dkwX0_account_0 : List UInt8 := [44, 3, 42, 27, 182, 0, 15, 133, 80, 167, 0, 6, 78, 4, 172, 3, 172]
abbrev dktX0_account_0 : List UInt8 := dkwX0_account_0 ++ []
theorem dksX0_account_0 : cX0_account.data.toList.drop 0 = dktX0_account_0 := by decide +kernel
theorem dX0_account_0 : decode cX0_account 0 = .ok (.aload_n 2, 1) := dk_44 (dk_at dksX0_account_0 0 rfl rfl)
theorem dX0_account_1 : decode cX0_account 1 = .ok (.iconst 0, 1) := dk_3 (dk_at dksX0_account_0 1 rfl rfl)
theorem dX0_account_2 : decode cX0_account 2 = .ok (.aload_n 0, 1) := dk_42 (dk_at dksX0_account_0 2 rfl rfl)
theorem dX0_account_3 : decode cX0_account 3 = .ok (.iload_n 1, 1) := dk_27 (dk_at dksX0_account_0 3 rfl rfl)
theorem dX0_account_4 : decode cX0_account 4 = .ok (.invokevirtual 15, 3) := dk_182 0 15 (dk_at dksX0_account_0 4 rfl rfl)
theorem dX0_account_7 : decode cX0_account 7 = .ok (.i2l, 1) := dk_133 (dk_at dksX0_account_0 7 rfl rfl)
theorem dX0_account_8 : decode cX0_account 8 = .ok (.lastore, 1) := dk_80 (dk_at dksX0_account_0 8 rfl rfl)
theorem dX0_account_9 : decode cX0_account 9 = .ok (.goto 6, 3) := dk_167 0 6 (dk_at dksX0_account_0 9 rfl rfl)
theorem dX0_account_12 : decode cX0_account 12 = .ok (.astore_n 3, 1) := dk_78 (dk_at dksX0_account_0 12 rfl rfl)
theorem dX0_account_13 : decode cX0_account 13 = .ok (.iconst 1, 1) := dk_4 (dk_at dksX0_account_0 13 rfl rfl)
theorem dX0_account_14 : decode cX0_account 14 = .ok (.ireturn, 1) := dk_172 (dk_at dksX0_account_0 14 rfl rfl)
theorem dX0_account_15 : decode cX0_account 15 = .ok (.iconst 0, 1) := dk_3 (dk_at dksX0_account_0 15 rfl rfl)
theorem dX0_account_16 : decode cX0_account 16 = .ok (.ireturn, 1) := dk_172 (dk_at dksX0_account_0 16 rfl rfl)
abbrev cX0_cell : ByteArray := method_5_code
def yX0_cell : MethodName := ⟨RX0, "cell", "(LSortingLoop;II[J)I"⟩
def dkwX0_cell_0 : List UInt8 := [45, 3, 42, 27, 28, 182, 0, 18, 133, 80, 167, 0, 11, 58, 4, 4, 172, 58, 4, 5, 172, 3, 172]
abbrev dktX0_cell_0 : List UInt8 := dkwX0_cell_0 ++ []
theorem dksX0_cell_0 : cX0_cell.data.toList.drop 0 = dktX0_cell_0 := by decide +kernel
theorem dX0_cell_0 : decode cX0_cell 0 = .ok (.aload_n 3, 1) := dk_45 (dk_at dksX0_cell_0 0 rfl rfl)
theorem dX0_cell_1 : decode cX0_cell 1 = .ok (.iconst 0, 1) := dk_3 (dk_at dksX0_cell_0 1 rfl rfl)
theorem dX0_cell_2 : decode cX0_cell 2 = .ok (.aload_n 0, 1) := dk_42 (dk_at dksX0_cell_0 2 rfl rfl)
theorem dX0_cell_3 : decode cX0_cell 3 = .ok (.iload_n 1, 1) := dk_27 (dk_at dksX0_cell_0 3 rfl rfl)
theorem dX0_cell_4 : decode cX0_cell 4 = .ok (.iload_n 2, 1) := dk_28 (dk_at dksX0_cell_0 4 rfl rfl)
theorem dX0_cell_5 : decode cX0_cell 5 = .ok (.invokevirtual 18, 3) := dk_182 0 18 (dk_at dksX0_cell_0 5 rfl rfl)
theorem dX0_cell_8 : decode cX0_cell 8 = .ok (.i2l, 1) := dk_133 (dk_at dksX0_cell_0 8 rfl rfl)
theorem dX0_cell_9 : decode cX0_cell 9 = .ok (.lastore, 1) := dk_80 (dk_at dksX0_cell_0 9 rfl rfl)
theorem dX0_cell_10 : decode cX0_cell 10 = .ok (.goto 11, 3) := dk_167 0 11 (dk_at dksX0_cell_0 10 rfl rfl)
theorem dX0_cell_13 : decode cX0_cell 13 = .ok (.astore 4, 2) := dk_58 4 (dk_at dksX0_cell_0 13 rfl rfl)
theorem dX0_cell_15 : decode cX0_cell 15 = .ok (.iconst 1, 1) := dk_4 (dk_at dksX0_cell_0 15 rfl rfl)
theorem dX0_cell_16 : decode cX0_cell 16 = .ok (.ireturn, 1) := dk_172 (dk_at dksX0_cell_0 16 rfl rfl)
theorem dX0_cell_17 : decode cX0_cell 17 = .ok (.astore 4, 2) := dk_58 4 (dk_at dksX0_cell_0 17 rfl rfl)
theorem dX0_cell_19 : decode cX0_cell 19 = .ok (.iconst 2, 1) := dk_5 (dk_at dksX0_cell_0 19 rfl rfl)
theorem dX0_cell_20 : decode cX0_cell 20 = .ok (.ireturn, 1) := dk_172 (dk_at dksX0_cell_0 20 rfl rfl)
theorem dX0_cell_21 : decode cX0_cell 21 = .ok (.iconst 0, 1) := dk_3 (dk_at dksX0_cell_0 21 rfl rfl)
theorem dX0_cell_22 : decode cX0_cell 22 = .ok (.ireturn, 1) := dk_172 (dk_at dksX0_cell_0 22 rfl rfl)
abbrev cX0_parcel : ByteArray := method_6_code
def yX0_parcel : MethodName := ⟨RX0, "parcel", "(LSortingLoop;II[J)I"⟩
def dkwX0_parcel_0 : List UInt8 := [45, 3, 42, 27, 28, 182, 0, 24, 133, 80, 167, 0, 11, 58, 4, 4, 172, 58, 4, 5, 172, 3, 172]
abbrev dktX0_parcel_0 : List UInt8 := dkwX0_parcel_0 ++ []
theorem dksX0_parcel_0 : cX0_parcel.data.toList.drop 0 = dktX0_parcel_0 := by decide +kernel
theorem dX0_parcel_0 : decode cX0_parcel 0 = .ok (.aload_n 3, 1) := dk_45 (dk_at dksX0_parcel_0 0 rfl rfl)
theorem dX0_parcel_1 : decode cX0_parcel 1 = .ok (.iconst 0, 1) := dk_3 (dk_at dksX0_parcel_0 1 rfl rfl)
theorem dX0_parcel_2 : decode cX0_parcel 2 = .ok (.aload_n 0, 1) := dk_42 (dk_at dksX0_parcel_0 2 rfl rfl)
theorem dX0_parcel_3 : decode cX0_parcel 3 = .ok (.iload_n 1, 1) := dk_27 (dk_at dksX0_parcel_0 3 rfl rfl)
theorem dX0_parcel_4 : decode cX0_parcel 4 = .ok (.iload_n 2, 1) := dk_28 (dk_at dksX0_parcel_0 4 rfl rfl)
theorem dX0_parcel_5 : decode cX0_parcel 5 = .ok (.invokevirtual 24, 3) := dk_182 0 24 (dk_at dksX0_parcel_0 5 rfl rfl)
theorem dX0_parcel_8 : decode cX0_parcel 8 = .ok (.i2l, 1) := dk_133 (dk_at dksX0_parcel_0 8 rfl rfl)
theorem dX0_parcel_9 : decode cX0_parcel 9 = .ok (.lastore, 1) := dk_80 (dk_at dksX0_parcel_0 9 rfl rfl)
theorem dX0_parcel_10 : decode cX0_parcel 10 = .ok (.goto 11, 3) := dk_167 0 11 (dk_at dksX0_parcel_0 10 rfl rfl)
theorem dX0_parcel_13 : decode cX0_parcel 13 = .ok (.astore 4, 2) := dk_58 4 (dk_at dksX0_parcel_0 13 rfl rfl)
theorem dX0_parcel_15 : decode cX0_parcel 15 = .ok (.iconst 1, 1) := dk_4 (dk_at dksX0_parcel_0 15 rfl rfl)
theorem dX0_parcel_16 : decode cX0_parcel 16 = .ok (.ireturn, 1) := dk_172 (dk_at dksX0_parcel_0 16 rfl rfl)
theorem dX0_parcel_17 : decode cX0_parcel 17 = .ok (.astore 4, 2) := dk_58 4 (dk_at dksX0_parcel_0 17 rfl rfl)
theorem dX0_parcel_19 : decode cX0_parcel 19 = .ok (.iconst 2, 1) := dk_5 (dk_at dksX0_parcel_0 19 rfl rfl)
theorem dX0_parcel_20 : decode cX0_parcel 20 = .ok (.ireturn, 1) := dk_172 (dk_at dksX0_parcel_0 20 rfl rfl)
theorem dX0_parcel_21 : decode cX0_parcel 21 = .ok (.iconst 0, 1) := dk_3 (dk_at dksX0_parcel_0 21 rfl rfl)
theorem dX0_parcel_22 : decode cX0_parcel 22 = .ok (.ireturn, 1) := dk_172 (dk_at dksX0_parcel_0 22 rfl rfl)
abbrev cX0_chute : ByteArray := method_7_code
def yX0_chute : MethodName := ⟨RX0, "chute", "(LSortingLoop;II[J)I"⟩
def dkwX0_chute_0 : List UInt8 := [45, 3, 42, 27, 28, 182, 0, 27, 133, 80, 167, 0, 11, 58, 4, 4, 172, 58, 4, 5, 172, 3, 172]
abbrev dktX0_chute_0 : List UInt8 := dkwX0_chute_0 ++ []
theorem dksX0_chute_0 : cX0_chute.data.toList.drop 0 = dktX0_chute_0 := by decide +kernel
theorem dX0_chute_0 : decode cX0_chute 0 = .ok (.aload_n 3, 1) := dk_45 (dk_at dksX0_chute_0 0 rfl rfl)
theorem dX0_chute_1 : decode cX0_chute 1 = .ok (.iconst 0, 1) := dk_3 (dk_at dksX0_chute_0 1 rfl rfl)
theorem dX0_chute_2 : decode cX0_chute 2 = .ok (.aload_n 0, 1) := dk_42 (dk_at dksX0_chute_0 2 rfl rfl)
theorem dX0_chute_3 : decode cX0_chute 3 = .ok (.iload_n 1, 1) := dk_27 (dk_at dksX0_chute_0 3 rfl rfl)
theorem dX0_chute_4 : decode cX0_chute 4 = .ok (.iload_n 2, 1) := dk_28 (dk_at dksX0_chute_0 4 rfl rfl)
theorem dX0_chute_5 : decode cX0_chute 5 = .ok (.invokevirtual 27, 3) := dk_182 0 27 (dk_at dksX0_chute_0 5 rfl rfl)
theorem dX0_chute_8 : decode cX0_chute 8 = .ok (.i2l, 1) := dk_133 (dk_at dksX0_chute_0 8 rfl rfl)
theorem dX0_chute_9 : decode cX0_chute 9 = .ok (.lastore, 1) := dk_80 (dk_at dksX0_chute_0 9 rfl rfl)
theorem dX0_chute_10 : decode cX0_chute 10 = .ok (.goto 11, 3) := dk_167 0 11 (dk_at dksX0_chute_0 10 rfl rfl)
theorem dX0_chute_13 : decode cX0_chute 13 = .ok (.astore 4, 2) := dk_58 4 (dk_at dksX0_chute_0 13 rfl rfl)
theorem dX0_chute_15 : decode cX0_chute 15 = .ok (.iconst 1, 1) := dk_4 (dk_at dksX0_chute_0 15 rfl rfl)
theorem dX0_chute_16 : decode cX0_chute 16 = .ok (.ireturn, 1) := dk_172 (dk_at dksX0_chute_0 16 rfl rfl)
theorem dX0_chute_17 : decode cX0_chute 17 = .ok (.astore 4, 2) := dk_58 4 (dk_at dksX0_chute_0 17 rfl rfl)
theorem dX0_chute_19 : decode cX0_chute 19 = .ok (.iconst 2, 1) := dk_5 (dk_at dksX0_chute_0 19 rfl rfl)
theorem dX0_chute_20 : decode cX0_chute 20 = .ok (.ireturn, 1) := dk_172 (dk_at dksX0_chute_0 20 rfl rfl)
theorem dX0_chute_21 : decode cX0_chute 21 = .ok (.iconst 0, 1) := dk_3 (dk_at dksX0_chute_0 21 rfl rfl)
theorem dX0_chute_22 : decode cX0_chute 22 = .ok (.ireturn, 1) := dk_172 (dk_at dksX0_chute_0 22 rfl rfl)
abbrev cX0_held : ByteArray := method_8_code
def yX0_held : MethodName := ⟨RX0, "held", "(LSortingLoop;II[J)I"⟩
def dkwX0_held_0 : List UInt8 := [45, 3, 42, 27, 28, 182, 0, 30, 133, 80, 167, 0, 7, 58, 4, 4, 172, 3, 172]
abbrev dktX0_held_0 : List UInt8 := dkwX0_held_0 ++ []
theorem dksX0_held_0 : cX0_held.data.toList.drop 0 = dktX0_held_0 := by decide +kernel
theorem dX0_held_0 : decode cX0_held 0 = .ok (.aload_n 3, 1) := dk_45 (dk_at dksX0_held_0 0 rfl rfl)
theorem dX0_held_1 : decode cX0_held 1 = .ok (.iconst 0, 1) := dk_3 (dk_at dksX0_held_0 1 rfl rfl)
theorem dX0_held_2 : decode cX0_held 2 = .ok (.aload_n 0, 1) := dk_42 (dk_at dksX0_held_0 2 rfl rfl)
theorem dX0_held_3 : decode cX0_held 3 = .ok (.iload_n 1, 1) := dk_27 (dk_at dksX0_held_0 3 rfl rfl)
theorem dX0_held_4 : decode cX0_held 4 = .ok (.iload_n 2, 1) := dk_28 (dk_at dksX0_held_0 4 rfl rfl)
theorem dX0_held_5 : decode cX0_held 5 = .ok (.invokevirtual 30, 3) := dk_182 0 30 (dk_at dksX0_held_0 5 rfl rfl)
theorem dX0_held_8 : decode cX0_held 8 = .ok (.i2l, 1) := dk_133 (dk_at dksX0_held_0 8 rfl rfl)
theorem dX0_held_9 : decode cX0_held 9 = .ok (.lastore, 1) := dk_80 (dk_at dksX0_held_0 9 rfl rfl)
theorem dX0_held_10 : decode cX0_held 10 = .ok (.goto 7, 3) := dk_167 0 7 (dk_at dksX0_held_0 10 rfl rfl)
theorem dX0_held_13 : decode cX0_held 13 = .ok (.astore 4, 2) := dk_58 4 (dk_at dksX0_held_0 13 rfl rfl)
theorem dX0_held_15 : decode cX0_held 15 = .ok (.iconst 1, 1) := dk_4 (dk_at dksX0_held_0 15 rfl rfl)
theorem dX0_held_16 : decode cX0_held 16 = .ok (.ireturn, 1) := dk_172 (dk_at dksX0_held_0 16 rfl rfl)
theorem dX0_held_17 : decode cX0_held 17 = .ok (.iconst 0, 1) := dk_3 (dk_at dksX0_held_0 17 rfl rfl)
theorem dX0_held_18 : decode cX0_held 18 = .ok (.ireturn, 1) := dk_172 (dk_at dksX0_held_0 18 rfl rfl)
abbrev cX0_steps : ByteArray := method_9_code
def yX0_steps : MethodName := ⟨RX0, "steps", "(LSortingLoop;II[J)I"⟩
def dkwX0_steps_0 : List UInt8 := [45, 3, 42, 27, 28, 182, 0, 33, 133, 80, 167, 0, 7, 58, 4, 4, 172, 3, 172]
abbrev dktX0_steps_0 : List UInt8 := dkwX0_steps_0 ++ []
theorem dksX0_steps_0 : cX0_steps.data.toList.drop 0 = dktX0_steps_0 := by decide +kernel
theorem dX0_steps_0 : decode cX0_steps 0 = .ok (.aload_n 3, 1) := dk_45 (dk_at dksX0_steps_0 0 rfl rfl)
theorem dX0_steps_1 : decode cX0_steps 1 = .ok (.iconst 0, 1) := dk_3 (dk_at dksX0_steps_0 1 rfl rfl)
theorem dX0_steps_2 : decode cX0_steps 2 = .ok (.aload_n 0, 1) := dk_42 (dk_at dksX0_steps_0 2 rfl rfl)
theorem dX0_steps_3 : decode cX0_steps 3 = .ok (.iload_n 1, 1) := dk_27 (dk_at dksX0_steps_0 3 rfl rfl)
theorem dX0_steps_4 : decode cX0_steps 4 = .ok (.iload_n 2, 1) := dk_28 (dk_at dksX0_steps_0 4 rfl rfl)
theorem dX0_steps_5 : decode cX0_steps 5 = .ok (.invokevirtual 33, 3) := dk_182 0 33 (dk_at dksX0_steps_0 5 rfl rfl)
theorem dX0_steps_8 : decode cX0_steps 8 = .ok (.i2l, 1) := dk_133 (dk_at dksX0_steps_0 8 rfl rfl)
theorem dX0_steps_9 : decode cX0_steps 9 = .ok (.lastore, 1) := dk_80 (dk_at dksX0_steps_0 9 rfl rfl)
theorem dX0_steps_10 : decode cX0_steps 10 = .ok (.goto 7, 3) := dk_167 0 7 (dk_at dksX0_steps_0 10 rfl rfl)
theorem dX0_steps_13 : decode cX0_steps 13 = .ok (.astore 4, 2) := dk_58 4 (dk_at dksX0_steps_0 13 rfl rfl)
theorem dX0_steps_15 : decode cX0_steps 15 = .ok (.iconst 1, 1) := dk_4 (dk_at dksX0_steps_0 15 rfl rfl)
theorem dX0_steps_16 : decode cX0_steps 16 = .ok (.ireturn, 1) := dk_172 (dk_at dksX0_steps_0 16 rfl rfl)
theorem dX0_steps_17 : decode cX0_steps 17 = .ok (.iconst 0, 1) := dk_3 (dk_at dksX0_steps_0 17 rfl rfl)
theorem dX0_steps_18 : decode cX0_steps 18 = .ok (.ireturn, 1) := dk_172 (dk_at dksX0_steps_0 18 rfl rfl)
abbrev cX0_toScanner : ByteArray := method_10_code
def yX0_toScanner : MethodName := ⟨RX0, "toScanner", "(LSortingLoop;I[J)I"⟩
def dkwX0_toScanner_0 : List UInt8 := [44, 3, 42, 27, 182, 0, 36, 133, 80, 167, 0, 6, 78, 4, 172, 3, 172]
abbrev dktX0_toScanner_0 : List UInt8 := dkwX0_toScanner_0 ++ []
theorem dksX0_toScanner_0 : cX0_toScanner.data.toList.drop 0 = dktX0_toScanner_0 := by decide +kernel
theorem dX0_toScanner_0 : decode cX0_toScanner 0 = .ok (.aload_n 2, 1) := dk_44 (dk_at dksX0_toScanner_0 0 rfl rfl)
theorem dX0_toScanner_1 : decode cX0_toScanner 1 = .ok (.iconst 0, 1) := dk_3 (dk_at dksX0_toScanner_0 1 rfl rfl)
theorem dX0_toScanner_2 : decode cX0_toScanner 2 = .ok (.aload_n 0, 1) := dk_42 (dk_at dksX0_toScanner_0 2 rfl rfl)
theorem dX0_toScanner_3 : decode cX0_toScanner 3 = .ok (.iload_n 1, 1) := dk_27 (dk_at dksX0_toScanner_0 3 rfl rfl)
theorem dX0_toScanner_4 : decode cX0_toScanner 4 = .ok (.invokevirtual 36, 3) := dk_182 0 36 (dk_at dksX0_toScanner_0 4 rfl rfl)
theorem dX0_toScanner_7 : decode cX0_toScanner 7 = .ok (.i2l, 1) := dk_133 (dk_at dksX0_toScanner_0 7 rfl rfl)
theorem dX0_toScanner_8 : decode cX0_toScanner 8 = .ok (.lastore, 1) := dk_80 (dk_at dksX0_toScanner_0 8 rfl rfl)
theorem dX0_toScanner_9 : decode cX0_toScanner 9 = .ok (.goto 6, 3) := dk_167 0 6 (dk_at dksX0_toScanner_0 9 rfl rfl)
theorem dX0_toScanner_12 : decode cX0_toScanner 12 = .ok (.astore_n 3, 1) := dk_78 (dk_at dksX0_toScanner_0 12 rfl rfl)
theorem dX0_toScanner_13 : decode cX0_toScanner 13 = .ok (.iconst 1, 1) := dk_4 (dk_at dksX0_toScanner_0 13 rfl rfl)
theorem dX0_toScanner_14 : decode cX0_toScanner 14 = .ok (.ireturn, 1) := dk_172 (dk_at dksX0_toScanner_0 14 rfl rfl)
theorem dX0_toScanner_15 : decode cX0_toScanner 15 = .ok (.iconst 0, 1) := dk_3 (dk_at dksX0_toScanner_0 15 rfl rfl)
theorem dX0_toScanner_16 : decode cX0_toScanner 16 = .ok (.ireturn, 1) := dk_172 (dk_at dksX0_toScanner_0 16 rfl rfl)
abbrev cX0_toChute : ByteArray := method_11_code
def yX0_toChute : MethodName := ⟨RX0, "toChute", "(LSortingLoop;I[J)I"⟩
def dkwX0_toChute_0 : List UInt8 := [44, 3, 42, 27, 182, 0, 39, 133, 80, 167, 0, 6, 78, 4, 172, 3, 172]
abbrev dktX0_toChute_0 : List UInt8 := dkwX0_toChute_0 ++ []
theorem dksX0_toChute_0 : cX0_toChute.data.toList.drop 0 = dktX0_toChute_0 := by decide +kernel
theorem dX0_toChute_0 : decode cX0_toChute 0 = .ok (.aload_n 2, 1) := dk_44 (dk_at dksX0_toChute_0 0 rfl rfl)
theorem dX0_toChute_1 : decode cX0_toChute 1 = .ok (.iconst 0, 1) := dk_3 (dk_at dksX0_toChute_0 1 rfl rfl)
theorem dX0_toChute_2 : decode cX0_toChute 2 = .ok (.aload_n 0, 1) := dk_42 (dk_at dksX0_toChute_0 2 rfl rfl)
theorem dX0_toChute_3 : decode cX0_toChute 3 = .ok (.iload_n 1, 1) := dk_27 (dk_at dksX0_toChute_0 3 rfl rfl)
theorem dX0_toChute_4 : decode cX0_toChute 4 = .ok (.invokevirtual 39, 3) := dk_182 0 39 (dk_at dksX0_toChute_0 4 rfl rfl)
theorem dX0_toChute_7 : decode cX0_toChute 7 = .ok (.i2l, 1) := dk_133 (dk_at dksX0_toChute_0 7 rfl rfl)
theorem dX0_toChute_8 : decode cX0_toChute 8 = .ok (.lastore, 1) := dk_80 (dk_at dksX0_toChute_0 8 rfl rfl)
theorem dX0_toChute_9 : decode cX0_toChute 9 = .ok (.goto 6, 3) := dk_167 0 6 (dk_at dksX0_toChute_0 9 rfl rfl)
theorem dX0_toChute_12 : decode cX0_toChute 12 = .ok (.astore_n 3, 1) := dk_78 (dk_at dksX0_toChute_0 12 rfl rfl)
theorem dX0_toChute_13 : decode cX0_toChute 13 = .ok (.iconst 1, 1) := dk_4 (dk_at dksX0_toChute_0 13 rfl rfl)
theorem dX0_toChute_14 : decode cX0_toChute 14 = .ok (.ireturn, 1) := dk_172 (dk_at dksX0_toChute_0 14 rfl rfl)
theorem dX0_toChute_15 : decode cX0_toChute 15 = .ok (.iconst 0, 1) := dk_3 (dk_at dksX0_toChute_0 15 rfl rfl)
theorem dX0_toChute_16 : decode cX0_toChute 16 = .ok (.ireturn, 1) := dk_172 (dk_at dksX0_toChute_0 16 rfl rfl)
abbrev cX0_why : ByteArray := method_12_code
def yX0_why : MethodName := ⟨RX0, "why", "(LSortingLoop;II[J)I"⟩
def dkwX0_why_0 : List UInt8 := [45, 3, 42, 27, 28, 182, 0, 42, 133, 80, 167, 0, 11, 58, 4, 4, 172, 58, 4, 5, 172, 3, 172]
abbrev dktX0_why_0 : List UInt8 := dkwX0_why_0 ++ []
theorem dksX0_why_0 : cX0_why.data.toList.drop 0 = dktX0_why_0 := by decide +kernel
theorem dX0_why_0 : decode cX0_why 0 = .ok (.aload_n 3, 1) := dk_45 (dk_at dksX0_why_0 0 rfl rfl)
theorem dX0_why_1 : decode cX0_why 1 = .ok (.iconst 0, 1) := dk_3 (dk_at dksX0_why_0 1 rfl rfl)
theorem dX0_why_2 : decode cX0_why 2 = .ok (.aload_n 0, 1) := dk_42 (dk_at dksX0_why_0 2 rfl rfl)
theorem dX0_why_3 : decode cX0_why 3 = .ok (.iload_n 1, 1) := dk_27 (dk_at dksX0_why_0 3 rfl rfl)
theorem dX0_why_4 : decode cX0_why 4 = .ok (.iload_n 2, 1) := dk_28 (dk_at dksX0_why_0 4 rfl rfl)
theorem dX0_why_5 : decode cX0_why 5 = .ok (.invokevirtual 42, 3) := dk_182 0 42 (dk_at dksX0_why_0 5 rfl rfl)
theorem dX0_why_8 : decode cX0_why 8 = .ok (.i2l, 1) := dk_133 (dk_at dksX0_why_0 8 rfl rfl)
theorem dX0_why_9 : decode cX0_why 9 = .ok (.lastore, 1) := dk_80 (dk_at dksX0_why_0 9 rfl rfl)
theorem dX0_why_10 : decode cX0_why 10 = .ok (.goto 11, 3) := dk_167 0 11 (dk_at dksX0_why_0 10 rfl rfl)
theorem dX0_why_13 : decode cX0_why 13 = .ok (.astore 4, 2) := dk_58 4 (dk_at dksX0_why_0 13 rfl rfl)
theorem dX0_why_15 : decode cX0_why 15 = .ok (.iconst 1, 1) := dk_4 (dk_at dksX0_why_0 15 rfl rfl)
theorem dX0_why_16 : decode cX0_why 16 = .ok (.ireturn, 1) := dk_172 (dk_at dksX0_why_0 16 rfl rfl)
theorem dX0_why_17 : decode cX0_why 17 = .ok (.astore 4, 2) := dk_58 4 (dk_at dksX0_why_0 17 rfl rfl)
theorem dX0_why_19 : decode cX0_why 19 = .ok (.iconst 2, 1) := dk_5 (dk_at dksX0_why_0 19 rfl rfl)
theorem dX0_why_20 : decode cX0_why 20 = .ok (.ireturn, 1) := dk_172 (dk_at dksX0_why_0 20 rfl rfl)
theorem dX0_why_21 : decode cX0_why 21 = .ok (.iconst 0, 1) := dk_3 (dk_at dksX0_why_0 21 rfl rfl)
theorem dX0_why_22 : decode cX0_why 22 = .ok (.ireturn, 1) := dk_172 (dk_at dksX0_why_0 22 rfl rfl)
abbrev cX0_whyNoSlip : ByteArray := method_13_code
def yX0_whyNoSlip : MethodName := ⟨RX0, "whyNoSlip", "(LSortingLoop;I[J)I"⟩
def dkwX0_whyNoSlip_0 : List UInt8 := [44, 3, 42, 27, 182, 0, 45, 133, 80, 167, 0, 6, 78, 4, 172, 3, 172]
abbrev dktX0_whyNoSlip_0 : List UInt8 := dkwX0_whyNoSlip_0 ++ []
theorem dksX0_whyNoSlip_0 : cX0_whyNoSlip.data.toList.drop 0 = dktX0_whyNoSlip_0 := by decide +kernel
theorem dX0_whyNoSlip_0 : decode cX0_whyNoSlip 0 = .ok (.aload_n 2, 1) := dk_44 (dk_at dksX0_whyNoSlip_0 0 rfl rfl)
theorem dX0_whyNoSlip_1 : decode cX0_whyNoSlip 1 = .ok (.iconst 0, 1) := dk_3 (dk_at dksX0_whyNoSlip_0 1 rfl rfl)
theorem dX0_whyNoSlip_2 : decode cX0_whyNoSlip 2 = .ok (.aload_n 0, 1) := dk_42 (dk_at dksX0_whyNoSlip_0 2 rfl rfl)
theorem dX0_whyNoSlip_3 : decode cX0_whyNoSlip 3 = .ok (.iload_n 1, 1) := dk_27 (dk_at dksX0_whyNoSlip_0 3 rfl rfl)
theorem dX0_whyNoSlip_4 : decode cX0_whyNoSlip 4 = .ok (.invokevirtual 45, 3) := dk_182 0 45 (dk_at dksX0_whyNoSlip_0 4 rfl rfl)
theorem dX0_whyNoSlip_7 : decode cX0_whyNoSlip 7 = .ok (.i2l, 1) := dk_133 (dk_at dksX0_whyNoSlip_0 7 rfl rfl)
theorem dX0_whyNoSlip_8 : decode cX0_whyNoSlip 8 = .ok (.lastore, 1) := dk_80 (dk_at dksX0_whyNoSlip_0 8 rfl rfl)
theorem dX0_whyNoSlip_9 : decode cX0_whyNoSlip 9 = .ok (.goto 6, 3) := dk_167 0 6 (dk_at dksX0_whyNoSlip_0 9 rfl rfl)
theorem dX0_whyNoSlip_12 : decode cX0_whyNoSlip 12 = .ok (.astore_n 3, 1) := dk_78 (dk_at dksX0_whyNoSlip_0 12 rfl rfl)
theorem dX0_whyNoSlip_13 : decode cX0_whyNoSlip 13 = .ok (.iconst 1, 1) := dk_4 (dk_at dksX0_whyNoSlip_0 13 rfl rfl)
theorem dX0_whyNoSlip_14 : decode cX0_whyNoSlip 14 = .ok (.ireturn, 1) := dk_172 (dk_at dksX0_whyNoSlip_0 14 rfl rfl)
theorem dX0_whyNoSlip_15 : decode cX0_whyNoSlip 15 = .ok (.iconst 0, 1) := dk_3 (dk_at dksX0_whyNoSlip_0 15 rfl rfl)
theorem dX0_whyNoSlip_16 : decode cX0_whyNoSlip 16 = .ok (.ireturn, 1) := dk_172 (dk_at dksX0_whyNoSlip_0 16 rfl rfl)
abbrev cX0_leavesIn : ByteArray := method_14_code
def yX0_leavesIn : MethodName := ⟨RX0, "leavesIn", "(LSortingLoop;I[J)I"⟩
def dkwX0_leavesIn_0 : List UInt8 := [44, 3, 42, 27, 182, 0, 48, 133, 80, 167, 0, 6, 78, 4, 172, 3, 172]
abbrev dktX0_leavesIn_0 : List UInt8 := dkwX0_leavesIn_0 ++ []
theorem dksX0_leavesIn_0 : cX0_leavesIn.data.toList.drop 0 = dktX0_leavesIn_0 := by decide +kernel
theorem dX0_leavesIn_0 : decode cX0_leavesIn 0 = .ok (.aload_n 2, 1) := dk_44 (dk_at dksX0_leavesIn_0 0 rfl rfl)
theorem dX0_leavesIn_1 : decode cX0_leavesIn 1 = .ok (.iconst 0, 1) := dk_3 (dk_at dksX0_leavesIn_0 1 rfl rfl)
theorem dX0_leavesIn_2 : decode cX0_leavesIn 2 = .ok (.aload_n 0, 1) := dk_42 (dk_at dksX0_leavesIn_0 2 rfl rfl)
theorem dX0_leavesIn_3 : decode cX0_leavesIn 3 = .ok (.iload_n 1, 1) := dk_27 (dk_at dksX0_leavesIn_0 3 rfl rfl)
theorem dX0_leavesIn_4 : decode cX0_leavesIn 4 = .ok (.invokevirtual 48, 3) := dk_182 0 48 (dk_at dksX0_leavesIn_0 4 rfl rfl)
theorem dX0_leavesIn_7 : decode cX0_leavesIn 7 = .ok (.i2l, 1) := dk_133 (dk_at dksX0_leavesIn_0 7 rfl rfl)
theorem dX0_leavesIn_8 : decode cX0_leavesIn 8 = .ok (.lastore, 1) := dk_80 (dk_at dksX0_leavesIn_0 8 rfl rfl)
theorem dX0_leavesIn_9 : decode cX0_leavesIn 9 = .ok (.goto 6, 3) := dk_167 0 6 (dk_at dksX0_leavesIn_0 9 rfl rfl)
theorem dX0_leavesIn_12 : decode cX0_leavesIn 12 = .ok (.astore_n 3, 1) := dk_78 (dk_at dksX0_leavesIn_0 12 rfl rfl)
theorem dX0_leavesIn_13 : decode cX0_leavesIn 13 = .ok (.iconst 1, 1) := dk_4 (dk_at dksX0_leavesIn_0 13 rfl rfl)
theorem dX0_leavesIn_14 : decode cX0_leavesIn 14 = .ok (.ireturn, 1) := dk_172 (dk_at dksX0_leavesIn_0 14 rfl rfl)
theorem dX0_leavesIn_15 : decode cX0_leavesIn 15 = .ok (.iconst 0, 1) := dk_3 (dk_at dksX0_leavesIn_0 15 rfl rfl)
theorem dX0_leavesIn_16 : decode cX0_leavesIn 16 = .ok (.ireturn, 1) := dk_172 (dk_at dksX0_leavesIn_0 16 rfl rfl)
abbrev cX0_endsAs : ByteArray := method_15_code
def yX0_endsAs : MethodName := ⟨RX0, "endsAs", "(LSortingLoop;II[J)I"⟩
def dkwX0_endsAs_0 : List UInt8 := [45, 3, 42, 27, 28, 182, 0, 51, 133, 80, 167, 0, 11, 58, 4, 4, 172, 58, 4, 5, 172, 3, 172]
abbrev dktX0_endsAs_0 : List UInt8 := dkwX0_endsAs_0 ++ []
theorem dksX0_endsAs_0 : cX0_endsAs.data.toList.drop 0 = dktX0_endsAs_0 := by decide +kernel
theorem dX0_endsAs_0 : decode cX0_endsAs 0 = .ok (.aload_n 3, 1) := dk_45 (dk_at dksX0_endsAs_0 0 rfl rfl)
theorem dX0_endsAs_1 : decode cX0_endsAs 1 = .ok (.iconst 0, 1) := dk_3 (dk_at dksX0_endsAs_0 1 rfl rfl)
theorem dX0_endsAs_2 : decode cX0_endsAs 2 = .ok (.aload_n 0, 1) := dk_42 (dk_at dksX0_endsAs_0 2 rfl rfl)
theorem dX0_endsAs_3 : decode cX0_endsAs 3 = .ok (.iload_n 1, 1) := dk_27 (dk_at dksX0_endsAs_0 3 rfl rfl)
theorem dX0_endsAs_4 : decode cX0_endsAs 4 = .ok (.iload_n 2, 1) := dk_28 (dk_at dksX0_endsAs_0 4 rfl rfl)
theorem dX0_endsAs_5 : decode cX0_endsAs 5 = .ok (.invokevirtual 51, 3) := dk_182 0 51 (dk_at dksX0_endsAs_0 5 rfl rfl)
theorem dX0_endsAs_8 : decode cX0_endsAs 8 = .ok (.i2l, 1) := dk_133 (dk_at dksX0_endsAs_0 8 rfl rfl)
theorem dX0_endsAs_9 : decode cX0_endsAs 9 = .ok (.lastore, 1) := dk_80 (dk_at dksX0_endsAs_0 9 rfl rfl)
theorem dX0_endsAs_10 : decode cX0_endsAs 10 = .ok (.goto 11, 3) := dk_167 0 11 (dk_at dksX0_endsAs_0 10 rfl rfl)
theorem dX0_endsAs_13 : decode cX0_endsAs 13 = .ok (.astore 4, 2) := dk_58 4 (dk_at dksX0_endsAs_0 13 rfl rfl)
theorem dX0_endsAs_15 : decode cX0_endsAs 15 = .ok (.iconst 1, 1) := dk_4 (dk_at dksX0_endsAs_0 15 rfl rfl)
theorem dX0_endsAs_16 : decode cX0_endsAs 16 = .ok (.ireturn, 1) := dk_172 (dk_at dksX0_endsAs_0 16 rfl rfl)
theorem dX0_endsAs_17 : decode cX0_endsAs 17 = .ok (.astore 4, 2) := dk_58 4 (dk_at dksX0_endsAs_0 17 rfl rfl)
theorem dX0_endsAs_19 : decode cX0_endsAs 19 = .ok (.iconst 2, 1) := dk_5 (dk_at dksX0_endsAs_0 19 rfl rfl)
theorem dX0_endsAs_20 : decode cX0_endsAs 20 = .ok (.ireturn, 1) := dk_172 (dk_at dksX0_endsAs_0 20 rfl rfl)
theorem dX0_endsAs_21 : decode cX0_endsAs 21 = .ok (.iconst 0, 1) := dk_3 (dk_at dksX0_endsAs_0 21 rfl rfl)
theorem dX0_endsAs_22 : decode cX0_endsAs 22 = .ok (.ireturn, 1) := dk_172 (dk_at dksX0_endsAs_0 22 rfl rfl)
abbrev cX0_heldIn : ByteArray := method_16_code
def yX0_heldIn : MethodName := ⟨RX0, "heldIn", "(LSortingLoop;II[J)I"⟩
def dkwX0_heldIn_0 : List UInt8 := [45, 3, 42, 27, 28, 182, 0, 54, 133, 80, 167, 0, 11, 58, 4, 4, 172, 58, 4, 5, 172, 3, 172]
abbrev dktX0_heldIn_0 : List UInt8 := dkwX0_heldIn_0 ++ []
theorem dksX0_heldIn_0 : cX0_heldIn.data.toList.drop 0 = dktX0_heldIn_0 := by decide +kernel
theorem dX0_heldIn_0 : decode cX0_heldIn 0 = .ok (.aload_n 3, 1) := dk_45 (dk_at dksX0_heldIn_0 0 rfl rfl)
theorem dX0_heldIn_1 : decode cX0_heldIn 1 = .ok (.iconst 0, 1) := dk_3 (dk_at dksX0_heldIn_0 1 rfl rfl)
theorem dX0_heldIn_2 : decode cX0_heldIn 2 = .ok (.aload_n 0, 1) := dk_42 (dk_at dksX0_heldIn_0 2 rfl rfl)
theorem dX0_heldIn_3 : decode cX0_heldIn 3 = .ok (.iload_n 1, 1) := dk_27 (dk_at dksX0_heldIn_0 3 rfl rfl)
theorem dX0_heldIn_4 : decode cX0_heldIn 4 = .ok (.iload_n 2, 1) := dk_28 (dk_at dksX0_heldIn_0 4 rfl rfl)
theorem dX0_heldIn_5 : decode cX0_heldIn 5 = .ok (.invokevirtual 54, 3) := dk_182 0 54 (dk_at dksX0_heldIn_0 5 rfl rfl)
theorem dX0_heldIn_8 : decode cX0_heldIn 8 = .ok (.i2l, 1) := dk_133 (dk_at dksX0_heldIn_0 8 rfl rfl)
theorem dX0_heldIn_9 : decode cX0_heldIn 9 = .ok (.lastore, 1) := dk_80 (dk_at dksX0_heldIn_0 9 rfl rfl)
theorem dX0_heldIn_10 : decode cX0_heldIn 10 = .ok (.goto 11, 3) := dk_167 0 11 (dk_at dksX0_heldIn_0 10 rfl rfl)
theorem dX0_heldIn_13 : decode cX0_heldIn 13 = .ok (.astore 4, 2) := dk_58 4 (dk_at dksX0_heldIn_0 13 rfl rfl)
theorem dX0_heldIn_15 : decode cX0_heldIn 15 = .ok (.iconst 1, 1) := dk_4 (dk_at dksX0_heldIn_0 15 rfl rfl)
theorem dX0_heldIn_16 : decode cX0_heldIn 16 = .ok (.ireturn, 1) := dk_172 (dk_at dksX0_heldIn_0 16 rfl rfl)
theorem dX0_heldIn_17 : decode cX0_heldIn 17 = .ok (.astore 4, 2) := dk_58 4 (dk_at dksX0_heldIn_0 17 rfl rfl)
theorem dX0_heldIn_19 : decode cX0_heldIn 19 = .ok (.iconst 2, 1) := dk_5 (dk_at dksX0_heldIn_0 19 rfl rfl)
theorem dX0_heldIn_20 : decode cX0_heldIn 20 = .ok (.ireturn, 1) := dk_172 (dk_at dksX0_heldIn_0 20 rfl rfl)
theorem dX0_heldIn_21 : decode cX0_heldIn 21 = .ok (.iconst 0, 1) := dk_3 (dk_at dksX0_heldIn_0 21 rfl rfl)
theorem dX0_heldIn_22 : decode cX0_heldIn 22 = .ok (.ireturn, 1) := dk_172 (dk_at dksX0_heldIn_0 22 rfl rfl)
abbrev cX0_growsIn : ByteArray := method_17_code
def yX0_growsIn : MethodName := ⟨RX0, "growsIn", "(LSortingLoop;II[J)I"⟩
def dkwX0_growsIn_0 : List UInt8 := [45, 3, 42, 27, 28, 182, 0, 57, 133, 80, 167, 0, 7, 58, 4, 4, 172, 3, 172]
abbrev dktX0_growsIn_0 : List UInt8 := dkwX0_growsIn_0 ++ []
theorem dksX0_growsIn_0 : cX0_growsIn.data.toList.drop 0 = dktX0_growsIn_0 := by decide +kernel
theorem dX0_growsIn_0 : decode cX0_growsIn 0 = .ok (.aload_n 3, 1) := dk_45 (dk_at dksX0_growsIn_0 0 rfl rfl)
theorem dX0_growsIn_1 : decode cX0_growsIn 1 = .ok (.iconst 0, 1) := dk_3 (dk_at dksX0_growsIn_0 1 rfl rfl)
theorem dX0_growsIn_2 : decode cX0_growsIn 2 = .ok (.aload_n 0, 1) := dk_42 (dk_at dksX0_growsIn_0 2 rfl rfl)
theorem dX0_growsIn_3 : decode cX0_growsIn 3 = .ok (.iload_n 1, 1) := dk_27 (dk_at dksX0_growsIn_0 3 rfl rfl)
theorem dX0_growsIn_4 : decode cX0_growsIn 4 = .ok (.iload_n 2, 1) := dk_28 (dk_at dksX0_growsIn_0 4 rfl rfl)
theorem dX0_growsIn_5 : decode cX0_growsIn 5 = .ok (.invokevirtual 57, 3) := dk_182 0 57 (dk_at dksX0_growsIn_0 5 rfl rfl)
theorem dX0_growsIn_8 : decode cX0_growsIn 8 = .ok (.i2l, 1) := dk_133 (dk_at dksX0_growsIn_0 8 rfl rfl)
theorem dX0_growsIn_9 : decode cX0_growsIn 9 = .ok (.lastore, 1) := dk_80 (dk_at dksX0_growsIn_0 9 rfl rfl)
theorem dX0_growsIn_10 : decode cX0_growsIn 10 = .ok (.goto 7, 3) := dk_167 0 7 (dk_at dksX0_growsIn_0 10 rfl rfl)
theorem dX0_growsIn_13 : decode cX0_growsIn 13 = .ok (.astore 4, 2) := dk_58 4 (dk_at dksX0_growsIn_0 13 rfl rfl)
theorem dX0_growsIn_15 : decode cX0_growsIn 15 = .ok (.iconst 1, 1) := dk_4 (dk_at dksX0_growsIn_0 15 rfl rfl)
theorem dX0_growsIn_16 : decode cX0_growsIn 16 = .ok (.ireturn, 1) := dk_172 (dk_at dksX0_growsIn_0 16 rfl rfl)
theorem dX0_growsIn_17 : decode cX0_growsIn 17 = .ok (.iconst 0, 1) := dk_3 (dk_at dksX0_growsIn_0 17 rfl rfl)
theorem dX0_growsIn_18 : decode cX0_growsIn 18 = .ok (.ireturn, 1) := dk_172 (dk_at dksX0_growsIn_0 18 rfl rfl)
abbrev cX0_gainOf : ByteArray := method_18_code
def yX0_gainOf : MethodName := ⟨RX0, "gainOf", "(LSortingLoop;II[J)I"⟩
def dkwX0_gainOf_0 : List UInt8 := [45, 3, 42, 27, 28, 182, 0, 60, 133, 80, 167, 0, 11, 58, 4, 4, 172, 58, 4, 5, 172, 3, 172]
abbrev dktX0_gainOf_0 : List UInt8 := dkwX0_gainOf_0 ++ []
theorem dksX0_gainOf_0 : cX0_gainOf.data.toList.drop 0 = dktX0_gainOf_0 := by decide +kernel
theorem dX0_gainOf_0 : decode cX0_gainOf 0 = .ok (.aload_n 3, 1) := dk_45 (dk_at dksX0_gainOf_0 0 rfl rfl)
theorem dX0_gainOf_1 : decode cX0_gainOf 1 = .ok (.iconst 0, 1) := dk_3 (dk_at dksX0_gainOf_0 1 rfl rfl)
theorem dX0_gainOf_2 : decode cX0_gainOf 2 = .ok (.aload_n 0, 1) := dk_42 (dk_at dksX0_gainOf_0 2 rfl rfl)
theorem dX0_gainOf_3 : decode cX0_gainOf 3 = .ok (.iload_n 1, 1) := dk_27 (dk_at dksX0_gainOf_0 3 rfl rfl)
theorem dX0_gainOf_4 : decode cX0_gainOf 4 = .ok (.iload_n 2, 1) := dk_28 (dk_at dksX0_gainOf_0 4 rfl rfl)
theorem dX0_gainOf_5 : decode cX0_gainOf 5 = .ok (.invokevirtual 60, 3) := dk_182 0 60 (dk_at dksX0_gainOf_0 5 rfl rfl)
theorem dX0_gainOf_8 : decode cX0_gainOf 8 = .ok (.i2l, 1) := dk_133 (dk_at dksX0_gainOf_0 8 rfl rfl)
theorem dX0_gainOf_9 : decode cX0_gainOf 9 = .ok (.lastore, 1) := dk_80 (dk_at dksX0_gainOf_0 9 rfl rfl)
theorem dX0_gainOf_10 : decode cX0_gainOf 10 = .ok (.goto 11, 3) := dk_167 0 11 (dk_at dksX0_gainOf_0 10 rfl rfl)
theorem dX0_gainOf_13 : decode cX0_gainOf 13 = .ok (.astore 4, 2) := dk_58 4 (dk_at dksX0_gainOf_0 13 rfl rfl)
theorem dX0_gainOf_15 : decode cX0_gainOf 15 = .ok (.iconst 1, 1) := dk_4 (dk_at dksX0_gainOf_0 15 rfl rfl)
theorem dX0_gainOf_16 : decode cX0_gainOf 16 = .ok (.ireturn, 1) := dk_172 (dk_at dksX0_gainOf_0 16 rfl rfl)
theorem dX0_gainOf_17 : decode cX0_gainOf 17 = .ok (.astore 4, 2) := dk_58 4 (dk_at dksX0_gainOf_0 17 rfl rfl)
theorem dX0_gainOf_19 : decode cX0_gainOf 19 = .ok (.iconst 2, 1) := dk_5 (dk_at dksX0_gainOf_0 19 rfl rfl)
theorem dX0_gainOf_20 : decode cX0_gainOf 20 = .ok (.ireturn, 1) := dk_172 (dk_at dksX0_gainOf_0 20 rfl rfl)
theorem dX0_gainOf_21 : decode cX0_gainOf 21 = .ok (.iconst 0, 1) := dk_3 (dk_at dksX0_gainOf_0 21 rfl rfl)
theorem dX0_gainOf_22 : decode cX0_gainOf 22 = .ok (.ireturn, 1) := dk_172 (dk_at dksX0_gainOf_0 22 rfl rfl)
abbrev cX0_bestEmpty : ByteArray := method_19_code
def yX0_bestEmpty : MethodName := ⟨RX0, "bestEmpty", "(LSortingLoop;I[J)I"⟩
def dkwX0_bestEmpty_0 : List UInt8 := [44, 3, 42, 27, 182, 0, 63, 133, 80, 167, 0, 6, 78, 4, 172, 3, 172]
abbrev dktX0_bestEmpty_0 : List UInt8 := dkwX0_bestEmpty_0 ++ []
theorem dksX0_bestEmpty_0 : cX0_bestEmpty.data.toList.drop 0 = dktX0_bestEmpty_0 := by decide +kernel
theorem dX0_bestEmpty_0 : decode cX0_bestEmpty 0 = .ok (.aload_n 2, 1) := dk_44 (dk_at dksX0_bestEmpty_0 0 rfl rfl)
theorem dX0_bestEmpty_1 : decode cX0_bestEmpty 1 = .ok (.iconst 0, 1) := dk_3 (dk_at dksX0_bestEmpty_0 1 rfl rfl)
theorem dX0_bestEmpty_2 : decode cX0_bestEmpty 2 = .ok (.aload_n 0, 1) := dk_42 (dk_at dksX0_bestEmpty_0 2 rfl rfl)
theorem dX0_bestEmpty_3 : decode cX0_bestEmpty 3 = .ok (.iload_n 1, 1) := dk_27 (dk_at dksX0_bestEmpty_0 3 rfl rfl)
theorem dX0_bestEmpty_4 : decode cX0_bestEmpty 4 = .ok (.invokevirtual 63, 3) := dk_182 0 63 (dk_at dksX0_bestEmpty_0 4 rfl rfl)
theorem dX0_bestEmpty_7 : decode cX0_bestEmpty 7 = .ok (.i2l, 1) := dk_133 (dk_at dksX0_bestEmpty_0 7 rfl rfl)
theorem dX0_bestEmpty_8 : decode cX0_bestEmpty 8 = .ok (.lastore, 1) := dk_80 (dk_at dksX0_bestEmpty_0 8 rfl rfl)
theorem dX0_bestEmpty_9 : decode cX0_bestEmpty 9 = .ok (.goto 6, 3) := dk_167 0 6 (dk_at dksX0_bestEmpty_0 9 rfl rfl)
theorem dX0_bestEmpty_12 : decode cX0_bestEmpty 12 = .ok (.astore_n 3, 1) := dk_78 (dk_at dksX0_bestEmpty_0 12 rfl rfl)
theorem dX0_bestEmpty_13 : decode cX0_bestEmpty 13 = .ok (.iconst 1, 1) := dk_4 (dk_at dksX0_bestEmpty_0 13 rfl rfl)
theorem dX0_bestEmpty_14 : decode cX0_bestEmpty 14 = .ok (.ireturn, 1) := dk_172 (dk_at dksX0_bestEmpty_0 14 rfl rfl)
theorem dX0_bestEmpty_15 : decode cX0_bestEmpty 15 = .ok (.iconst 0, 1) := dk_3 (dk_at dksX0_bestEmpty_0 15 rfl rfl)
theorem dX0_bestEmpty_16 : decode cX0_bestEmpty 16 = .ok (.ireturn, 1) := dk_172 (dk_at dksX0_bestEmpty_0 16 rfl rfl)
abbrev cX0_missortsIf : ByteArray := method_20_code
def yX0_missortsIf : MethodName := ⟨RX0, "missortsIf", "(LSortingLoop;III[J)I"⟩
def dkwX0_missortsIf_1 : List UInt8 := [172]
abbrev dktX0_missortsIf_1 : List UInt8 := dkwX0_missortsIf_1 ++ []
def dkwX0_missortsIf_0 : List UInt8 := [25, 4, 3, 42, 27, 28, 29, 182, 0, 66, 133, 80, 167, 0, 11, 58, 5, 4, 172, 58, 5, 5, 172, 3]
abbrev dktX0_missortsIf_0 : List UInt8 := dkwX0_missortsIf_0 ++ dktX0_missortsIf_1
theorem dksX0_missortsIf_0 : cX0_missortsIf.data.toList.drop 0 = dktX0_missortsIf_0 := by decide +kernel
theorem dksX0_missortsIf_1 : cX0_missortsIf.data.toList.drop 24 = dktX0_missortsIf_1 := dk_seg dksX0_missortsIf_0 24 rfl rfl
theorem dX0_missortsIf_0 : decode cX0_missortsIf 0 = .ok (.aload 4, 2) := dk_25 4 (dk_at dksX0_missortsIf_0 0 rfl rfl)
theorem dX0_missortsIf_2 : decode cX0_missortsIf 2 = .ok (.iconst 0, 1) := dk_3 (dk_at dksX0_missortsIf_0 2 rfl rfl)
theorem dX0_missortsIf_3 : decode cX0_missortsIf 3 = .ok (.aload_n 0, 1) := dk_42 (dk_at dksX0_missortsIf_0 3 rfl rfl)
theorem dX0_missortsIf_4 : decode cX0_missortsIf 4 = .ok (.iload_n 1, 1) := dk_27 (dk_at dksX0_missortsIf_0 4 rfl rfl)
theorem dX0_missortsIf_5 : decode cX0_missortsIf 5 = .ok (.iload_n 2, 1) := dk_28 (dk_at dksX0_missortsIf_0 5 rfl rfl)
theorem dX0_missortsIf_6 : decode cX0_missortsIf 6 = .ok (.iload_n 3, 1) := dk_29 (dk_at dksX0_missortsIf_0 6 rfl rfl)
theorem dX0_missortsIf_7 : decode cX0_missortsIf 7 = .ok (.invokevirtual 66, 3) := dk_182 0 66 (dk_at dksX0_missortsIf_0 7 rfl rfl)
theorem dX0_missortsIf_10 : decode cX0_missortsIf 10 = .ok (.i2l, 1) := dk_133 (dk_at dksX0_missortsIf_0 10 rfl rfl)
theorem dX0_missortsIf_11 : decode cX0_missortsIf 11 = .ok (.lastore, 1) := dk_80 (dk_at dksX0_missortsIf_0 11 rfl rfl)
theorem dX0_missortsIf_12 : decode cX0_missortsIf 12 = .ok (.goto 11, 3) := dk_167 0 11 (dk_at dksX0_missortsIf_0 12 rfl rfl)
theorem dX0_missortsIf_15 : decode cX0_missortsIf 15 = .ok (.astore 5, 2) := dk_58 5 (dk_at dksX0_missortsIf_0 15 rfl rfl)
theorem dX0_missortsIf_17 : decode cX0_missortsIf 17 = .ok (.iconst 1, 1) := dk_4 (dk_at dksX0_missortsIf_0 17 rfl rfl)
theorem dX0_missortsIf_18 : decode cX0_missortsIf 18 = .ok (.ireturn, 1) := dk_172 (dk_at dksX0_missortsIf_0 18 rfl rfl)
theorem dX0_missortsIf_19 : decode cX0_missortsIf 19 = .ok (.astore 5, 2) := dk_58 5 (dk_at dksX0_missortsIf_0 19 rfl rfl)
theorem dX0_missortsIf_21 : decode cX0_missortsIf 21 = .ok (.iconst 2, 1) := dk_5 (dk_at dksX0_missortsIf_0 21 rfl rfl)
theorem dX0_missortsIf_22 : decode cX0_missortsIf 22 = .ok (.ireturn, 1) := dk_172 (dk_at dksX0_missortsIf_0 22 rfl rfl)
theorem dX0_missortsIf_23 : decode cX0_missortsIf 23 = .ok (.iconst 0, 1) := dk_3 (dk_at dksX0_missortsIf_0 23 rfl rfl)
theorem dX0_missortsIf_24 : decode cX0_missortsIf 24 = .ok (.ireturn, 1) := dk_172 (dk_at dksX0_missortsIf_1 0 rfl rfl)
abbrev cX0_put : ByteArray := method_21_code
def yX0_put : MethodName := ⟨RX0, "put", "(LSortingLoop;II[J)I"⟩
def dkwX0_put_1 : List UInt8 := [172, 3, 172]
abbrev dktX0_put_1 : List UInt8 := dkwX0_put_1 ++ []
def dkwX0_put_0 : List UInt8 := [45, 3, 42, 27, 28, 182, 0, 70, 133, 80, 167, 0, 15, 58, 4, 4, 172, 58, 4, 5, 172, 58, 4, 6]
abbrev dktX0_put_0 : List UInt8 := dkwX0_put_0 ++ dktX0_put_1
theorem dksX0_put_0 : cX0_put.data.toList.drop 0 = dktX0_put_0 := by decide +kernel
theorem dksX0_put_1 : cX0_put.data.toList.drop 24 = dktX0_put_1 := dk_seg dksX0_put_0 24 rfl rfl
theorem dX0_put_0 : decode cX0_put 0 = .ok (.aload_n 3, 1) := dk_45 (dk_at dksX0_put_0 0 rfl rfl)
theorem dX0_put_1 : decode cX0_put 1 = .ok (.iconst 0, 1) := dk_3 (dk_at dksX0_put_0 1 rfl rfl)
theorem dX0_put_2 : decode cX0_put 2 = .ok (.aload_n 0, 1) := dk_42 (dk_at dksX0_put_0 2 rfl rfl)
theorem dX0_put_3 : decode cX0_put 3 = .ok (.iload_n 1, 1) := dk_27 (dk_at dksX0_put_0 3 rfl rfl)
theorem dX0_put_4 : decode cX0_put 4 = .ok (.iload_n 2, 1) := dk_28 (dk_at dksX0_put_0 4 rfl rfl)
theorem dX0_put_5 : decode cX0_put 5 = .ok (.invokevirtual 70, 3) := dk_182 0 70 (dk_at dksX0_put_0 5 rfl rfl)
theorem dX0_put_8 : decode cX0_put 8 = .ok (.i2l, 1) := dk_133 (dk_at dksX0_put_0 8 rfl rfl)
theorem dX0_put_9 : decode cX0_put 9 = .ok (.lastore, 1) := dk_80 (dk_at dksX0_put_0 9 rfl rfl)
theorem dX0_put_10 : decode cX0_put 10 = .ok (.goto 15, 3) := dk_167 0 15 (dk_at dksX0_put_0 10 rfl rfl)
theorem dX0_put_13 : decode cX0_put 13 = .ok (.astore 4, 2) := dk_58 4 (dk_at dksX0_put_0 13 rfl rfl)
theorem dX0_put_15 : decode cX0_put 15 = .ok (.iconst 1, 1) := dk_4 (dk_at dksX0_put_0 15 rfl rfl)
theorem dX0_put_16 : decode cX0_put 16 = .ok (.ireturn, 1) := dk_172 (dk_at dksX0_put_0 16 rfl rfl)
theorem dX0_put_17 : decode cX0_put 17 = .ok (.astore 4, 2) := dk_58 4 (dk_at dksX0_put_0 17 rfl rfl)
theorem dX0_put_19 : decode cX0_put 19 = .ok (.iconst 2, 1) := dk_5 (dk_at dksX0_put_0 19 rfl rfl)
theorem dX0_put_20 : decode cX0_put 20 = .ok (.ireturn, 1) := dk_172 (dk_at dksX0_put_0 20 rfl rfl)
theorem dX0_put_21 : decode cX0_put 21 = .ok (.astore 4, 2) := dk_58 4 (dk_at dksX0_put_0 21 rfl rfl)
theorem dX0_put_23 : decode cX0_put 23 = .ok (.iconst 3, 1) := dk_6 (dk_at dksX0_put_0 23 rfl rfl)
theorem dX0_put_24 : decode cX0_put 24 = .ok (.ireturn, 1) := dk_172 (dk_at dksX0_put_1 0 rfl rfl)
theorem dX0_put_25 : decode cX0_put 25 = .ok (.iconst 0, 1) := dk_3 (dk_at dksX0_put_1 1 rfl rfl)
theorem dX0_put_26 : decode cX0_put 26 = .ok (.ireturn, 1) := dk_172 (dk_at dksX0_put_1 2 rfl rfl)
abbrev cX0_tick : ByteArray := method_22_code
def yX0_tick : MethodName := ⟨RX0, "tick", "(LSortingLoop;I[J)I"⟩
def dkwX0_tick_0 : List UInt8 := [44, 3, 42, 27, 182, 0, 75, 133, 80, 167, 0, 9, 78, 4, 172, 78, 5, 172, 3, 172]
abbrev dktX0_tick_0 : List UInt8 := dkwX0_tick_0 ++ []
theorem dksX0_tick_0 : cX0_tick.data.toList.drop 0 = dktX0_tick_0 := by decide +kernel
theorem dX0_tick_0 : decode cX0_tick 0 = .ok (.aload_n 2, 1) := dk_44 (dk_at dksX0_tick_0 0 rfl rfl)
theorem dX0_tick_1 : decode cX0_tick 1 = .ok (.iconst 0, 1) := dk_3 (dk_at dksX0_tick_0 1 rfl rfl)
theorem dX0_tick_2 : decode cX0_tick 2 = .ok (.aload_n 0, 1) := dk_42 (dk_at dksX0_tick_0 2 rfl rfl)
theorem dX0_tick_3 : decode cX0_tick 3 = .ok (.iload_n 1, 1) := dk_27 (dk_at dksX0_tick_0 3 rfl rfl)
theorem dX0_tick_4 : decode cX0_tick 4 = .ok (.invokevirtual 75, 3) := dk_182 0 75 (dk_at dksX0_tick_0 4 rfl rfl)
theorem dX0_tick_7 : decode cX0_tick 7 = .ok (.i2l, 1) := dk_133 (dk_at dksX0_tick_0 7 rfl rfl)
theorem dX0_tick_8 : decode cX0_tick 8 = .ok (.lastore, 1) := dk_80 (dk_at dksX0_tick_0 8 rfl rfl)
theorem dX0_tick_9 : decode cX0_tick 9 = .ok (.goto 9, 3) := dk_167 0 9 (dk_at dksX0_tick_0 9 rfl rfl)
theorem dX0_tick_12 : decode cX0_tick 12 = .ok (.astore_n 3, 1) := dk_78 (dk_at dksX0_tick_0 12 rfl rfl)
theorem dX0_tick_13 : decode cX0_tick 13 = .ok (.iconst 1, 1) := dk_4 (dk_at dksX0_tick_0 13 rfl rfl)
theorem dX0_tick_14 : decode cX0_tick 14 = .ok (.ireturn, 1) := dk_172 (dk_at dksX0_tick_0 14 rfl rfl)
theorem dX0_tick_15 : decode cX0_tick 15 = .ok (.astore_n 3, 1) := dk_78 (dk_at dksX0_tick_0 15 rfl rfl)
theorem dX0_tick_16 : decode cX0_tick 16 = .ok (.iconst 2, 1) := dk_5 (dk_at dksX0_tick_0 16 rfl rfl)
theorem dX0_tick_17 : decode cX0_tick 17 = .ok (.ireturn, 1) := dk_172 (dk_at dksX0_tick_0 17 rfl rfl)
theorem dX0_tick_18 : decode cX0_tick 18 = .ok (.iconst 0, 1) := dk_3 (dk_at dksX0_tick_0 18 rfl rfl)
theorem dX0_tick_19 : decode cX0_tick 19 = .ok (.ireturn, 1) := dk_172 (dk_at dksX0_tick_0 19 rfl rfl)
abbrev cX0_slip : ByteArray := method_23_code
def yX0_slip : MethodName := ⟨RX0, "slip", "(LSortingLoop;I[J)I"⟩
def dkwX0_slip_0 : List UInt8 := [44, 3, 42, 27, 182, 0, 78, 133, 80, 167, 0, 9, 78, 4, 172, 78, 5, 172, 3, 172]
abbrev dktX0_slip_0 : List UInt8 := dkwX0_slip_0 ++ []
theorem dksX0_slip_0 : cX0_slip.data.toList.drop 0 = dktX0_slip_0 := by decide +kernel
theorem dX0_slip_0 : decode cX0_slip 0 = .ok (.aload_n 2, 1) := dk_44 (dk_at dksX0_slip_0 0 rfl rfl)
theorem dX0_slip_1 : decode cX0_slip 1 = .ok (.iconst 0, 1) := dk_3 (dk_at dksX0_slip_0 1 rfl rfl)
theorem dX0_slip_2 : decode cX0_slip 2 = .ok (.aload_n 0, 1) := dk_42 (dk_at dksX0_slip_0 2 rfl rfl)
theorem dX0_slip_3 : decode cX0_slip 3 = .ok (.iload_n 1, 1) := dk_27 (dk_at dksX0_slip_0 3 rfl rfl)
theorem dX0_slip_4 : decode cX0_slip 4 = .ok (.invokevirtual 78, 3) := dk_182 0 78 (dk_at dksX0_slip_0 4 rfl rfl)
theorem dX0_slip_7 : decode cX0_slip 7 = .ok (.i2l, 1) := dk_133 (dk_at dksX0_slip_0 7 rfl rfl)
theorem dX0_slip_8 : decode cX0_slip 8 = .ok (.lastore, 1) := dk_80 (dk_at dksX0_slip_0 8 rfl rfl)
theorem dX0_slip_9 : decode cX0_slip 9 = .ok (.goto 9, 3) := dk_167 0 9 (dk_at dksX0_slip_0 9 rfl rfl)
theorem dX0_slip_12 : decode cX0_slip 12 = .ok (.astore_n 3, 1) := dk_78 (dk_at dksX0_slip_0 12 rfl rfl)
theorem dX0_slip_13 : decode cX0_slip 13 = .ok (.iconst 1, 1) := dk_4 (dk_at dksX0_slip_0 13 rfl rfl)
theorem dX0_slip_14 : decode cX0_slip 14 = .ok (.ireturn, 1) := dk_172 (dk_at dksX0_slip_0 14 rfl rfl)
theorem dX0_slip_15 : decode cX0_slip 15 = .ok (.astore_n 3, 1) := dk_78 (dk_at dksX0_slip_0 15 rfl rfl)
theorem dX0_slip_16 : decode cX0_slip 16 = .ok (.iconst 2, 1) := dk_5 (dk_at dksX0_slip_0 16 rfl rfl)
theorem dX0_slip_17 : decode cX0_slip 17 = .ok (.ireturn, 1) := dk_172 (dk_at dksX0_slip_0 17 rfl rfl)
theorem dX0_slip_18 : decode cX0_slip 18 = .ok (.iconst 0, 1) := dk_3 (dk_at dksX0_slip_0 18 rfl rfl)
theorem dX0_slip_19 : decode cX0_slip 19 = .ok (.ireturn, 1) := dk_172 (dk_at dksX0_slip_0 19 rfl rfl)
abbrev cX0_empty : ByteArray := method_24_code
def yX0_empty : MethodName := ⟨RX0, "empty", "(LSortingLoop;I[J)I"⟩
def dkwX0_empty_0 : List UInt8 := [44, 3, 42, 27, 182, 0, 81, 133, 80, 167, 0, 6, 78, 4, 172, 3, 172]
abbrev dktX0_empty_0 : List UInt8 := dkwX0_empty_0 ++ []
theorem dksX0_empty_0 : cX0_empty.data.toList.drop 0 = dktX0_empty_0 := by decide +kernel
theorem dX0_empty_0 : decode cX0_empty 0 = .ok (.aload_n 2, 1) := dk_44 (dk_at dksX0_empty_0 0 rfl rfl)
theorem dX0_empty_1 : decode cX0_empty 1 = .ok (.iconst 0, 1) := dk_3 (dk_at dksX0_empty_0 1 rfl rfl)
theorem dX0_empty_2 : decode cX0_empty 2 = .ok (.aload_n 0, 1) := dk_42 (dk_at dksX0_empty_0 2 rfl rfl)
theorem dX0_empty_3 : decode cX0_empty 3 = .ok (.iload_n 1, 1) := dk_27 (dk_at dksX0_empty_0 3 rfl rfl)
theorem dX0_empty_4 : decode cX0_empty 4 = .ok (.invokevirtual 81, 3) := dk_182 0 81 (dk_at dksX0_empty_0 4 rfl rfl)
theorem dX0_empty_7 : decode cX0_empty 7 = .ok (.i2l, 1) := dk_133 (dk_at dksX0_empty_0 7 rfl rfl)
theorem dX0_empty_8 : decode cX0_empty 8 = .ok (.lastore, 1) := dk_80 (dk_at dksX0_empty_0 8 rfl rfl)
theorem dX0_empty_9 : decode cX0_empty 9 = .ok (.goto 6, 3) := dk_167 0 6 (dk_at dksX0_empty_0 9 rfl rfl)
theorem dX0_empty_12 : decode cX0_empty 12 = .ok (.astore_n 3, 1) := dk_78 (dk_at dksX0_empty_0 12 rfl rfl)
theorem dX0_empty_13 : decode cX0_empty 13 = .ok (.iconst 1, 1) := dk_4 (dk_at dksX0_empty_0 13 rfl rfl)
theorem dX0_empty_14 : decode cX0_empty 14 = .ok (.ireturn, 1) := dk_172 (dk_at dksX0_empty_0 14 rfl rfl)
theorem dX0_empty_15 : decode cX0_empty 15 = .ok (.iconst 0, 1) := dk_3 (dk_at dksX0_empty_0 15 rfl rfl)
theorem dX0_empty_16 : decode cX0_empty 16 = .ok (.ireturn, 1) := dk_172 (dk_at dksX0_empty_0 16 rfl rfl)
abbrev cX0_shut : ByteArray := method_25_code
def yX0_shut : MethodName := ⟨RX0, "shut", "(LSortingLoop;IZ[J)I"⟩
def dkwX0_shut_0 : List UInt8 := [45, 3, 42, 27, 28, 182, 0, 84, 133, 80, 167, 0, 7, 58, 4, 4, 172, 3, 172]
abbrev dktX0_shut_0 : List UInt8 := dkwX0_shut_0 ++ []
theorem dksX0_shut_0 : cX0_shut.data.toList.drop 0 = dktX0_shut_0 := by decide +kernel
theorem dX0_shut_0 : decode cX0_shut 0 = .ok (.aload_n 3, 1) := dk_45 (dk_at dksX0_shut_0 0 rfl rfl)
theorem dX0_shut_1 : decode cX0_shut 1 = .ok (.iconst 0, 1) := dk_3 (dk_at dksX0_shut_0 1 rfl rfl)
theorem dX0_shut_2 : decode cX0_shut 2 = .ok (.aload_n 0, 1) := dk_42 (dk_at dksX0_shut_0 2 rfl rfl)
theorem dX0_shut_3 : decode cX0_shut 3 = .ok (.iload_n 1, 1) := dk_27 (dk_at dksX0_shut_0 3 rfl rfl)
theorem dX0_shut_4 : decode cX0_shut 4 = .ok (.iload_n 2, 1) := dk_28 (dk_at dksX0_shut_0 4 rfl rfl)
theorem dX0_shut_5 : decode cX0_shut 5 = .ok (.invokevirtual 84, 3) := dk_182 0 84 (dk_at dksX0_shut_0 5 rfl rfl)
theorem dX0_shut_8 : decode cX0_shut 8 = .ok (.i2l, 1) := dk_133 (dk_at dksX0_shut_0 8 rfl rfl)
theorem dX0_shut_9 : decode cX0_shut 9 = .ok (.lastore, 1) := dk_80 (dk_at dksX0_shut_0 9 rfl rfl)
theorem dX0_shut_10 : decode cX0_shut 10 = .ok (.goto 7, 3) := dk_167 0 7 (dk_at dksX0_shut_0 10 rfl rfl)
theorem dX0_shut_13 : decode cX0_shut 13 = .ok (.astore 4, 2) := dk_58 4 (dk_at dksX0_shut_0 13 rfl rfl)
theorem dX0_shut_15 : decode cX0_shut 15 = .ok (.iconst 1, 1) := dk_4 (dk_at dksX0_shut_0 15 rfl rfl)
theorem dX0_shut_16 : decode cX0_shut 16 = .ok (.ireturn, 1) := dk_172 (dk_at dksX0_shut_0 16 rfl rfl)
theorem dX0_shut_17 : decode cX0_shut 17 = .ok (.iconst 0, 1) := dk_3 (dk_at dksX0_shut_0 17 rfl rfl)
theorem dX0_shut_18 : decode cX0_shut 18 = .ok (.ireturn, 1) := dk_172 (dk_at dksX0_shut_0 18 rfl rfl)
abbrev cX0_set : ByteArray := method_26_code
def yX0_set : MethodName := ⟨RX0, "set", "(LSortingLoop;II[J)I"⟩
def dkwX0_set_0 : List UInt8 := [45, 3, 42, 27, 28, 182, 0, 88, 133, 80, 167, 0, 11, 58, 4, 4, 172, 58, 4, 5, 172, 3, 172]
abbrev dktX0_set_0 : List UInt8 := dkwX0_set_0 ++ []
theorem dksX0_set_0 : cX0_set.data.toList.drop 0 = dktX0_set_0 := by decide +kernel
theorem dX0_set_0 : decode cX0_set 0 = .ok (.aload_n 3, 1) := dk_45 (dk_at dksX0_set_0 0 rfl rfl)
theorem dX0_set_1 : decode cX0_set 1 = .ok (.iconst 0, 1) := dk_3 (dk_at dksX0_set_0 1 rfl rfl)
theorem dX0_set_2 : decode cX0_set 2 = .ok (.aload_n 0, 1) := dk_42 (dk_at dksX0_set_0 2 rfl rfl)
theorem dX0_set_3 : decode cX0_set 3 = .ok (.iload_n 1, 1) := dk_27 (dk_at dksX0_set_0 3 rfl rfl)
theorem dX0_set_4 : decode cX0_set 4 = .ok (.iload_n 2, 1) := dk_28 (dk_at dksX0_set_0 4 rfl rfl)
theorem dX0_set_5 : decode cX0_set 5 = .ok (.invokevirtual 88, 3) := dk_182 0 88 (dk_at dksX0_set_0 5 rfl rfl)
theorem dX0_set_8 : decode cX0_set 8 = .ok (.i2l, 1) := dk_133 (dk_at dksX0_set_0 8 rfl rfl)
theorem dX0_set_9 : decode cX0_set 9 = .ok (.lastore, 1) := dk_80 (dk_at dksX0_set_0 9 rfl rfl)
theorem dX0_set_10 : decode cX0_set 10 = .ok (.goto 11, 3) := dk_167 0 11 (dk_at dksX0_set_0 10 rfl rfl)
theorem dX0_set_13 : decode cX0_set 13 = .ok (.astore 4, 2) := dk_58 4 (dk_at dksX0_set_0 13 rfl rfl)
theorem dX0_set_15 : decode cX0_set 15 = .ok (.iconst 1, 1) := dk_4 (dk_at dksX0_set_0 15 rfl rfl)
theorem dX0_set_16 : decode cX0_set 16 = .ok (.ireturn, 1) := dk_172 (dk_at dksX0_set_0 16 rfl rfl)
theorem dX0_set_17 : decode cX0_set 17 = .ok (.astore 4, 2) := dk_58 4 (dk_at dksX0_set_0 17 rfl rfl)
theorem dX0_set_19 : decode cX0_set 19 = .ok (.iconst 2, 1) := dk_5 (dk_at dksX0_set_0 19 rfl rfl)
theorem dX0_set_20 : decode cX0_set 20 = .ok (.ireturn, 1) := dk_172 (dk_at dksX0_set_0 20 rfl rfl)
theorem dX0_set_21 : decode cX0_set 21 = .ok (.iconst 0, 1) := dk_3 (dk_at dksX0_set_0 21 rfl rfl)
theorem dX0_set_22 : decode cX0_set 22 = .ok (.ireturn, 1) := dk_172 (dk_at dksX0_set_0 22 rfl rfl)
abbrev cX0_undo : ByteArray := method_27_code
def yX0_undo : MethodName := ⟨RX0, "undo", "(LSortingLoop;[J)I"⟩
def dkwX0_undo_0 : List UInt8 := [43, 3, 42, 182, 0, 91, 133, 80, 167, 0, 6, 77, 4, 172, 3, 172]
abbrev dktX0_undo_0 : List UInt8 := dkwX0_undo_0 ++ []
theorem dksX0_undo_0 : cX0_undo.data.toList.drop 0 = dktX0_undo_0 := by decide +kernel
theorem dX0_undo_0 : decode cX0_undo 0 = .ok (.aload_n 1, 1) := dk_43 (dk_at dksX0_undo_0 0 rfl rfl)
theorem dX0_undo_1 : decode cX0_undo 1 = .ok (.iconst 0, 1) := dk_3 (dk_at dksX0_undo_0 1 rfl rfl)
theorem dX0_undo_2 : decode cX0_undo 2 = .ok (.aload_n 0, 1) := dk_42 (dk_at dksX0_undo_0 2 rfl rfl)
theorem dX0_undo_3 : decode cX0_undo 3 = .ok (.invokevirtual 91, 3) := dk_182 0 91 (dk_at dksX0_undo_0 3 rfl rfl)
theorem dX0_undo_6 : decode cX0_undo 6 = .ok (.i2l, 1) := dk_133 (dk_at dksX0_undo_0 6 rfl rfl)
theorem dX0_undo_7 : decode cX0_undo 7 = .ok (.lastore, 1) := dk_80 (dk_at dksX0_undo_0 7 rfl rfl)
theorem dX0_undo_8 : decode cX0_undo 8 = .ok (.goto 6, 3) := dk_167 0 6 (dk_at dksX0_undo_0 8 rfl rfl)
theorem dX0_undo_11 : decode cX0_undo 11 = .ok (.astore_n 2, 1) := dk_77 (dk_at dksX0_undo_0 11 rfl rfl)
theorem dX0_undo_12 : decode cX0_undo 12 = .ok (.iconst 1, 1) := dk_4 (dk_at dksX0_undo_0 12 rfl rfl)
theorem dX0_undo_13 : decode cX0_undo 13 = .ok (.ireturn, 1) := dk_172 (dk_at dksX0_undo_0 13 rfl rfl)
theorem dX0_undo_14 : decode cX0_undo 14 = .ok (.iconst 0, 1) := dk_3 (dk_at dksX0_undo_0 14 rfl rfl)
theorem dX0_undo_15 : decode cX0_undo 15 = .ok (.ireturn, 1) := dk_172 (dk_at dksX0_undo_0 15 rfl rfl)
abbrev cX0_restoreState : ByteArray := method_28_code
def yX0_restoreState : MethodName := ⟨RX0, "restoreState", "(LSortingLoop;[J)I"⟩
def dkwX0_restoreState_0 : List UInt8 := [43, 3, 42, 182, 0, 97, 133, 80, 167, 0, 6, 77, 4, 172, 3, 172]
abbrev dktX0_restoreState_0 : List UInt8 := dkwX0_restoreState_0 ++ []
theorem dksX0_restoreState_0 : cX0_restoreState.data.toList.drop 0 = dktX0_restoreState_0 := by decide +kernel
theorem dX0_restoreState_0 : decode cX0_restoreState 0 = .ok (.aload_n 1, 1) := dk_43 (dk_at dksX0_restoreState_0 0 rfl rfl)
theorem dX0_restoreState_1 : decode cX0_restoreState 1 = .ok (.iconst 0, 1) := dk_3 (dk_at dksX0_restoreState_0 1 rfl rfl)
theorem dX0_restoreState_2 : decode cX0_restoreState 2 = .ok (.aload_n 0, 1) := dk_42 (dk_at dksX0_restoreState_0 2 rfl rfl)
theorem dX0_restoreState_3 : decode cX0_restoreState 3 = .ok (.invokevirtual 97, 3) := dk_182 0 97 (dk_at dksX0_restoreState_0 3 rfl rfl)
theorem dX0_restoreState_6 : decode cX0_restoreState 6 = .ok (.i2l, 1) := dk_133 (dk_at dksX0_restoreState_0 6 rfl rfl)
theorem dX0_restoreState_7 : decode cX0_restoreState 7 = .ok (.lastore, 1) := dk_80 (dk_at dksX0_restoreState_0 7 rfl rfl)
theorem dX0_restoreState_8 : decode cX0_restoreState 8 = .ok (.goto 6, 3) := dk_167 0 6 (dk_at dksX0_restoreState_0 8 rfl rfl)
theorem dX0_restoreState_11 : decode cX0_restoreState 11 = .ok (.astore_n 2, 1) := dk_77 (dk_at dksX0_restoreState_0 11 rfl rfl)
theorem dX0_restoreState_12 : decode cX0_restoreState 12 = .ok (.iconst 1, 1) := dk_4 (dk_at dksX0_restoreState_0 12 rfl rfl)
theorem dX0_restoreState_13 : decode cX0_restoreState 13 = .ok (.ireturn, 1) := dk_172 (dk_at dksX0_restoreState_0 13 rfl rfl)
theorem dX0_restoreState_14 : decode cX0_restoreState 14 = .ok (.iconst 0, 1) := dk_3 (dk_at dksX0_restoreState_0 14 rfl rfl)
theorem dX0_restoreState_15 : decode cX0_restoreState 15 = .ok (.ireturn, 1) := dk_172 (dk_at dksX0_restoreState_0 15 rfl rfl)
theorem q137 : (Jvm.Cond.initialized "SortingLoopLaw") ∈ lw_all := lw_g (lw_at lw_m1 0 rfl) rfl
theorem q194 : (Jvm.Cond.classLink "SortingLoopLaw" (8 : Nat) "SortingLoop") ∈ lw_all := lw_g (lw_at lw_m1 57 rfl) rfl
theorem q196 : (Jvm.Cond.methodLink "SortingLoopLaw" (100 : Nat) ({ cls := "SortingLoop", name := "<init>", desc := "()V" } : Jvm.MethodName)) ∈ lw_all := lw_g (lw_at lw_m1 59 rfl) rfl
theorem q1353 : (Jvm.Cond.methodLink "SortingLoopLaw" (104 : Nat) ({ cls := "SortingLoop", name := "appendInput", desc := "(IIIII)I" } : Jvm.MethodName)) ∈ lw_all := lw_g (lw_at lw_m6 16 rfl) rfl
theorem q1361 : (Jvm.Cond.methodLink "SortingLoopLaw" (109 : Nat) ({ cls := "SortingLoop", name := "truncateInput", desc := "(I)Z" } : Jvm.MethodName)) ∈ lw_all := lw_g (lw_at lw_m6 24 rfl) rfl
theorem q1368 : (Jvm.Cond.methodLink "SortingLoopLaw" (114 : Nat) ({ cls := "SortingLoop", name := "loadLoop", desc := "()I" } : Jvm.MethodName)) ∈ lw_all := lw_g (lw_at lw_m6 31 rfl) rfl
theorem q1756 : (Jvm.Cond.methodLink "SortingLoopLaw" (118 : Nat) ({ cls := "SortingLoop", name := "playScript", desc := "()I" } : Jvm.MethodName)) ∈ lw_all := lw_g (lw_at lw_m7 179 rfl) rfl
theorem q2145 : (Jvm.Cond.methodLink "SortingLoopLaw" (122 : Nat) ({ cls := "SortingLoop", name := "errorCode", desc := "()I" } : Jvm.MethodName)) ∈ lw_all := lw_g (lw_at lw_m9 88 rfl) rfl
theorem q2149 : (Jvm.Cond.methodLink "SortingLoopLaw" (126 : Nat) ({ cls := "SortingLoop", name := "errorOffset", desc := "()I" } : Jvm.MethodName)) ∈ lw_all := lw_g (lw_at lw_m9 92 rfl) rfl
theorem q2153 : (Jvm.Cond.methodLink "SortingLoopLaw" (167 : Nat) ({ cls := "SortingLoop", name := "whyNoPut", desc := "()I" } : Jvm.MethodName)) ∈ lw_all := lw_g (lw_at lw_m9 96 rfl) rfl
theorem q2158 : (Jvm.Cond.methodLink "SortingLoopLaw" (196 : Nat) ({ cls := "SortingLoop", name := "clearIn", desc := "()I" } : Jvm.MethodName)) ∈ lw_all := lw_g (lw_at lw_m9 101 rfl) rfl
theorem q2169 : (Jvm.Cond.methodLink "SortingLoopLaw" (200 : Nat) ({ cls := "SortingLoop", name := "freeIn", desc := "()I" } : Jvm.MethodName)) ∈ lw_all := lw_g (lw_at lw_m9 112 rfl) rfl
theorem q2174 : (Jvm.Cond.methodLink "SortingLoopLaw" (204 : Nat) ({ cls := "SortingLoop", name := "agree", desc := "()Z" } : Jvm.MethodName)) ∈ lw_all := lw_g (lw_at lw_m9 117 rfl) rfl
theorem q2269 : (Jvm.Cond.methodLink "SortingLoopLaw" (209 : Nat) ({ cls := "SortingLoop", name := "sortedPart", desc := "()D" } : Jvm.MethodName)) ∈ lw_all := lw_g (lw_at lw_m9 212 rfl) rfl
theorem q2273 : (Jvm.Cond.methodLink "SortingLoopLaw" (214 : Nat) ({ cls := "SortingLoop", name := "load", desc := "()F" } : Jvm.MethodName)) ∈ lw_all := lw_g (lw_at lw_m9 216 rfl) rfl
theorem q2277 : (Jvm.Cond.methodLink "SortingLoopLaw" (242 : Nat) ({ cls := "SortingLoop", name := "printLoop", desc := "()I" } : Jvm.MethodName)) ∈ lw_all := lw_g (lw_at lw_m9 220 rfl) rfl
theorem q2353 : (Jvm.Cond.methodLink "SortingLoopLaw" (246 : Nat) ({ cls := "SortingLoop", name := "printChutes", desc := "()I" } : Jvm.MethodName)) ∈ lw_all := lw_g (lw_at lw_m10 56 rfl) rfl
theorem q2364 : (Jvm.Cond.methodLink "SortingLoopLaw" (250 : Nat) ({ cls := "SortingLoop", name := "outputByte", desc := "(I)I" } : Jvm.MethodName)) ∈ lw_all := lw_g (lw_at lw_m10 67 rfl) rfl
theorem q2378 : (Jvm.Cond.methodLink "SortingLoopLaw" (254 : Nat) ({ cls := "SortingLoop", name := "saveState", desc := "()I" } : Jvm.MethodName)) ∈ lw_all := lw_g (lw_at lw_m10 81 rfl) rfl
theorem q2382 : (Jvm.Cond.methodLink "SortingLoopLaw" (130 : Nat) ({ cls := "SortingLoopLaw", name := "count", desc := "(LSortingLoop;I[J)I" } : Jvm.MethodName)) ∈ lw_all := lw_g (lw_at lw_m10 85 rfl) rfl
theorem q2383 : (Jvm.Cond.static ({ cls := "SortingLoopLaw", name := "count", desc := "(LSortingLoop;I[J)I" } : Jvm.MethodName)) ∈ lw_all := lw_g (lw_at lw_m10 86 rfl) rfl
theorem q2384 : (Jvm.Cond.codeWith ({ cls := "SortingLoopLaw", name := "count", desc := "(LSortingLoop;I[J)I" } : Jvm.MethodName) method_3_code (4 : Nat) (Option.some Jvm.ClassFile.FieldType.int) [((0 : Nat), (9 : Nat), (12 : Nat), (13 : Nat))]) ∈ lw_all := lw_g (lw_at lw_m10 87 rfl) rfl
theorem q2385 : (Jvm.Cond.classLink "SortingLoopLaw" (13 : Nat) "java/lang/IllegalArgumentException") ∈ lw_all := lw_g (lw_at lw_m10 88 rfl) rfl
theorem q2386 : (Jvm.Cond.methodLink "SortingLoopLaw" (7 : Nat) ({ cls := "SortingLoop", name := "count", desc := "(I)I" } : Jvm.MethodName)) ∈ lw_all := lw_g (lw_at lw_m10 89 rfl) rfl
theorem q2406 : (Jvm.Cond.methodLink "SortingLoopLaw" (139 : Nat) ({ cls := "SortingLoopLaw", name := "account", desc := "(LSortingLoop;I[J)I" } : Jvm.MethodName)) ∈ lw_all := lw_g (lw_at lw_m10 109 rfl) rfl
theorem q2407 : (Jvm.Cond.static ({ cls := "SortingLoopLaw", name := "account", desc := "(LSortingLoop;I[J)I" } : Jvm.MethodName)) ∈ lw_all := lw_g (lw_at lw_m10 110 rfl) rfl
theorem q2408 : (Jvm.Cond.codeWith ({ cls := "SortingLoopLaw", name := "account", desc := "(LSortingLoop;I[J)I" } : Jvm.MethodName) method_4_code (4 : Nat) (Option.some Jvm.ClassFile.FieldType.int) [((0 : Nat), (9 : Nat), (12 : Nat), (13 : Nat))]) ∈ lw_all := lw_g (lw_at lw_m10 111 rfl) rfl
theorem q2409 : (Jvm.Cond.methodLink "SortingLoopLaw" (15 : Nat) ({ cls := "SortingLoop", name := "account", desc := "(I)I" } : Jvm.MethodName)) ∈ lw_all := lw_g (lw_at lw_m10 112 rfl) rfl
theorem q2417 : (Jvm.Cond.methodLink "SortingLoopLaw" (142 : Nat) ({ cls := "SortingLoopLaw", name := "cell", desc := "(LSortingLoop;II[J)I" } : Jvm.MethodName)) ∈ lw_all := lw_g (lw_at lw_m10 120 rfl) rfl
theorem q2418 : (Jvm.Cond.static ({ cls := "SortingLoopLaw", name := "cell", desc := "(LSortingLoop;II[J)I" } : Jvm.MethodName)) ∈ lw_all := lw_g (lw_at lw_m10 121 rfl) rfl
theorem q2419 : (Jvm.Cond.codeWith ({ cls := "SortingLoopLaw", name := "cell", desc := "(LSortingLoop;II[J)I" } : Jvm.MethodName) method_5_code (5 : Nat) (Option.some Jvm.ClassFile.FieldType.int) [((0 : Nat), (10 : Nat), (13 : Nat), (22 : Nat)), ((0 : Nat), (10 : Nat), (17 : Nat), (13 : Nat))]) ∈ lw_all := lw_g (lw_at lw_m10 122 rfl) rfl
theorem q2420 : (Jvm.Cond.classLink "SortingLoopLaw" (22 : Nat) "java/lang/IndexOutOfBoundsException") ∈ lw_all := lw_g (lw_at lw_m10 123 rfl) rfl
theorem q2423 : (Jvm.Cond.methodLink "SortingLoopLaw" (18 : Nat) ({ cls := "SortingLoop", name := "cell", desc := "(II)I" } : Jvm.MethodName)) ∈ lw_all := lw_g (lw_at lw_m10 126 rfl) rfl
theorem q2447 : (Jvm.Cond.methodLink "SortingLoopLaw" (146 : Nat) ({ cls := "SortingLoopLaw", name := "parcel", desc := "(LSortingLoop;II[J)I" } : Jvm.MethodName)) ∈ lw_all := lw_g (lw_at lw_m10 150 rfl) rfl
theorem q2448 : (Jvm.Cond.static ({ cls := "SortingLoopLaw", name := "parcel", desc := "(LSortingLoop;II[J)I" } : Jvm.MethodName)) ∈ lw_all := lw_g (lw_at lw_m10 151 rfl) rfl
theorem q2449 : (Jvm.Cond.codeWith ({ cls := "SortingLoopLaw", name := "parcel", desc := "(LSortingLoop;II[J)I" } : Jvm.MethodName) method_6_code (5 : Nat) (Option.some Jvm.ClassFile.FieldType.int) [((0 : Nat), (10 : Nat), (13 : Nat), (22 : Nat)), ((0 : Nat), (10 : Nat), (17 : Nat), (13 : Nat))]) ∈ lw_all := lw_g (lw_at lw_m10 152 rfl) rfl
theorem q2450 : (Jvm.Cond.methodLink "SortingLoopLaw" (24 : Nat) ({ cls := "SortingLoop", name := "parcel", desc := "(II)I" } : Jvm.MethodName)) ∈ lw_all := lw_g (lw_at lw_m10 153 rfl) rfl
theorem q2458 : (Jvm.Cond.methodLink "SortingLoopLaw" (149 : Nat) ({ cls := "SortingLoopLaw", name := "chute", desc := "(LSortingLoop;II[J)I" } : Jvm.MethodName)) ∈ lw_all := lw_g (lw_at lw_m10 161 rfl) rfl
theorem q2459 : (Jvm.Cond.static ({ cls := "SortingLoopLaw", name := "chute", desc := "(LSortingLoop;II[J)I" } : Jvm.MethodName)) ∈ lw_all := lw_g (lw_at lw_m10 162 rfl) rfl
theorem q2460 : (Jvm.Cond.codeWith ({ cls := "SortingLoopLaw", name := "chute", desc := "(LSortingLoop;II[J)I" } : Jvm.MethodName) method_7_code (5 : Nat) (Option.some Jvm.ClassFile.FieldType.int) [((0 : Nat), (10 : Nat), (13 : Nat), (22 : Nat)), ((0 : Nat), (10 : Nat), (17 : Nat), (13 : Nat))]) ∈ lw_all := lw_g (lw_at lw_m10 163 rfl) rfl
theorem q2461 : (Jvm.Cond.methodLink "SortingLoopLaw" (27 : Nat) ({ cls := "SortingLoop", name := "chute", desc := "(II)I" } : Jvm.MethodName)) ∈ lw_all := lw_g (lw_at lw_m10 164 rfl) rfl
theorem q2485 : (Jvm.Cond.methodLink "SortingLoopLaw" (152 : Nat) ({ cls := "SortingLoopLaw", name := "held", desc := "(LSortingLoop;II[J)I" } : Jvm.MethodName)) ∈ lw_all := lw_g (lw_at lw_m10 188 rfl) rfl
theorem q2486 : (Jvm.Cond.static ({ cls := "SortingLoopLaw", name := "held", desc := "(LSortingLoop;II[J)I" } : Jvm.MethodName)) ∈ lw_all := lw_g (lw_at lw_m10 189 rfl) rfl
theorem q2487 : (Jvm.Cond.codeWith ({ cls := "SortingLoopLaw", name := "held", desc := "(LSortingLoop;II[J)I" } : Jvm.MethodName) method_8_code (5 : Nat) (Option.some Jvm.ClassFile.FieldType.int) [((0 : Nat), (10 : Nat), (13 : Nat), (22 : Nat))]) ∈ lw_all := lw_g (lw_at lw_m10 190 rfl) rfl
theorem q2488 : (Jvm.Cond.methodLink "SortingLoopLaw" (30 : Nat) ({ cls := "SortingLoop", name := "held", desc := "(II)I" } : Jvm.MethodName)) ∈ lw_all := lw_g (lw_at lw_m10 191 rfl) rfl
theorem q2492 : (Jvm.Cond.methodLink "SortingLoopLaw" (155 : Nat) ({ cls := "SortingLoopLaw", name := "steps", desc := "(LSortingLoop;II[J)I" } : Jvm.MethodName)) ∈ lw_all := lw_g (lw_at lw_m10 195 rfl) rfl
theorem q2493 : (Jvm.Cond.static ({ cls := "SortingLoopLaw", name := "steps", desc := "(LSortingLoop;II[J)I" } : Jvm.MethodName)) ∈ lw_all := lw_g (lw_at lw_m10 196 rfl) rfl
theorem q2494 : (Jvm.Cond.codeWith ({ cls := "SortingLoopLaw", name := "steps", desc := "(LSortingLoop;II[J)I" } : Jvm.MethodName) method_9_code (5 : Nat) (Option.some Jvm.ClassFile.FieldType.int) [((0 : Nat), (10 : Nat), (13 : Nat), (22 : Nat))]) ∈ lw_all := lw_g (lw_at lw_m10 197 rfl) rfl
theorem q2495 : (Jvm.Cond.methodLink "SortingLoopLaw" (33 : Nat) ({ cls := "SortingLoop", name := "steps", desc := "(II)I" } : Jvm.MethodName)) ∈ lw_all := lw_g (lw_at lw_m10 198 rfl) rfl
theorem q2500 : (Jvm.Cond.methodLink "SortingLoopLaw" (158 : Nat) ({ cls := "SortingLoopLaw", name := "toScanner", desc := "(LSortingLoop;I[J)I" } : Jvm.MethodName)) ∈ lw_all := lw_g (lw_at lw_m10 203 rfl) rfl
theorem q2501 : (Jvm.Cond.static ({ cls := "SortingLoopLaw", name := "toScanner", desc := "(LSortingLoop;I[J)I" } : Jvm.MethodName)) ∈ lw_all := lw_g (lw_at lw_m10 204 rfl) rfl
theorem q2502 : (Jvm.Cond.codeWith ({ cls := "SortingLoopLaw", name := "toScanner", desc := "(LSortingLoop;I[J)I" } : Jvm.MethodName) method_10_code (4 : Nat) (Option.some Jvm.ClassFile.FieldType.int) [((0 : Nat), (9 : Nat), (12 : Nat), (22 : Nat))]) ∈ lw_all := lw_g (lw_at lw_m10 205 rfl) rfl
theorem q2503 : (Jvm.Cond.methodLink "SortingLoopLaw" (36 : Nat) ({ cls := "SortingLoop", name := "toScanner", desc := "(I)I" } : Jvm.MethodName)) ∈ lw_all := lw_g (lw_at lw_m10 206 rfl) rfl
theorem q2511 : (Jvm.Cond.methodLink "SortingLoopLaw" (161 : Nat) ({ cls := "SortingLoopLaw", name := "toChute", desc := "(LSortingLoop;I[J)I" } : Jvm.MethodName)) ∈ lw_all := lw_g (lw_at lw_m10 214 rfl) rfl
theorem q2512 : (Jvm.Cond.static ({ cls := "SortingLoopLaw", name := "toChute", desc := "(LSortingLoop;I[J)I" } : Jvm.MethodName)) ∈ lw_all := lw_g (lw_at lw_m10 215 rfl) rfl
theorem q2513 : (Jvm.Cond.codeWith ({ cls := "SortingLoopLaw", name := "toChute", desc := "(LSortingLoop;I[J)I" } : Jvm.MethodName) method_11_code (4 : Nat) (Option.some Jvm.ClassFile.FieldType.int) [((0 : Nat), (9 : Nat), (12 : Nat), (22 : Nat))]) ∈ lw_all := lw_g (lw_at lw_m10 216 rfl) rfl
theorem q2514 : (Jvm.Cond.methodLink "SortingLoopLaw" (39 : Nat) ({ cls := "SortingLoop", name := "toChute", desc := "(I)I" } : Jvm.MethodName)) ∈ lw_all := lw_g (lw_at lw_m10 217 rfl) rfl
theorem q2522 : (Jvm.Cond.methodLink "SortingLoopLaw" (164 : Nat) ({ cls := "SortingLoopLaw", name := "why", desc := "(LSortingLoop;II[J)I" } : Jvm.MethodName)) ∈ lw_all := lw_g (lw_at lw_m10 225 rfl) rfl
theorem q2523 : (Jvm.Cond.static ({ cls := "SortingLoopLaw", name := "why", desc := "(LSortingLoop;II[J)I" } : Jvm.MethodName)) ∈ lw_all := lw_g (lw_at lw_m10 226 rfl) rfl
theorem q2524 : (Jvm.Cond.codeWith ({ cls := "SortingLoopLaw", name := "why", desc := "(LSortingLoop;II[J)I" } : Jvm.MethodName) method_12_code (5 : Nat) (Option.some Jvm.ClassFile.FieldType.int) [((0 : Nat), (10 : Nat), (13 : Nat), (22 : Nat)), ((0 : Nat), (10 : Nat), (17 : Nat), (13 : Nat))]) ∈ lw_all := lw_g (lw_at lw_m10 227 rfl) rfl
theorem q2525 : (Jvm.Cond.methodLink "SortingLoopLaw" (42 : Nat) ({ cls := "SortingLoop", name := "why", desc := "(II)I" } : Jvm.MethodName)) ∈ lw_all := lw_g (lw_at lw_m10 228 rfl) rfl
theorem q2548 : (Jvm.Cond.methodLink "SortingLoopLaw" (171 : Nat) ({ cls := "SortingLoopLaw", name := "whyNoSlip", desc := "(LSortingLoop;I[J)I" } : Jvm.MethodName)) ∈ lw_all := lw_g (lw_at lw_m11 11 rfl) rfl
theorem q2549 : (Jvm.Cond.static ({ cls := "SortingLoopLaw", name := "whyNoSlip", desc := "(LSortingLoop;I[J)I" } : Jvm.MethodName)) ∈ lw_all := lw_g (lw_at lw_m11 12 rfl) rfl
theorem q2550 : (Jvm.Cond.codeWith ({ cls := "SortingLoopLaw", name := "whyNoSlip", desc := "(LSortingLoop;I[J)I" } : Jvm.MethodName) method_13_code (4 : Nat) (Option.some Jvm.ClassFile.FieldType.int) [((0 : Nat), (9 : Nat), (12 : Nat), (22 : Nat))]) ∈ lw_all := lw_g (lw_at lw_m11 13 rfl) rfl
theorem q2551 : (Jvm.Cond.methodLink "SortingLoopLaw" (45 : Nat) ({ cls := "SortingLoop", name := "whyNoSlip", desc := "(I)I" } : Jvm.MethodName)) ∈ lw_all := lw_g (lw_at lw_m11 14 rfl) rfl
theorem q2556 : (Jvm.Cond.methodLink "SortingLoopLaw" (174 : Nat) ({ cls := "SortingLoopLaw", name := "leavesIn", desc := "(LSortingLoop;I[J)I" } : Jvm.MethodName)) ∈ lw_all := lw_g (lw_at lw_m11 19 rfl) rfl
theorem q2557 : (Jvm.Cond.static ({ cls := "SortingLoopLaw", name := "leavesIn", desc := "(LSortingLoop;I[J)I" } : Jvm.MethodName)) ∈ lw_all := lw_g (lw_at lw_m11 20 rfl) rfl
theorem q2558 : (Jvm.Cond.codeWith ({ cls := "SortingLoopLaw", name := "leavesIn", desc := "(LSortingLoop;I[J)I" } : Jvm.MethodName) method_14_code (4 : Nat) (Option.some Jvm.ClassFile.FieldType.int) [((0 : Nat), (9 : Nat), (12 : Nat), (22 : Nat))]) ∈ lw_all := lw_g (lw_at lw_m11 21 rfl) rfl
theorem q2559 : (Jvm.Cond.methodLink "SortingLoopLaw" (48 : Nat) ({ cls := "SortingLoop", name := "leavesIn", desc := "(I)I" } : Jvm.MethodName)) ∈ lw_all := lw_g (lw_at lw_m11 22 rfl) rfl
theorem q2563 : (Jvm.Cond.methodLink "SortingLoopLaw" (177 : Nat) ({ cls := "SortingLoopLaw", name := "endsAs", desc := "(LSortingLoop;II[J)I" } : Jvm.MethodName)) ∈ lw_all := lw_g (lw_at lw_m11 26 rfl) rfl
theorem q2564 : (Jvm.Cond.static ({ cls := "SortingLoopLaw", name := "endsAs", desc := "(LSortingLoop;II[J)I" } : Jvm.MethodName)) ∈ lw_all := lw_g (lw_at lw_m11 27 rfl) rfl
theorem q2565 : (Jvm.Cond.codeWith ({ cls := "SortingLoopLaw", name := "endsAs", desc := "(LSortingLoop;II[J)I" } : Jvm.MethodName) method_15_code (5 : Nat) (Option.some Jvm.ClassFile.FieldType.int) [((0 : Nat), (10 : Nat), (13 : Nat), (22 : Nat)), ((0 : Nat), (10 : Nat), (17 : Nat), (13 : Nat))]) ∈ lw_all := lw_g (lw_at lw_m11 28 rfl) rfl
theorem q2566 : (Jvm.Cond.methodLink "SortingLoopLaw" (51 : Nat) ({ cls := "SortingLoop", name := "endsAs", desc := "(II)I" } : Jvm.MethodName)) ∈ lw_all := lw_g (lw_at lw_m11 29 rfl) rfl
theorem q2578 : (Jvm.Cond.methodLink "SortingLoopLaw" (180 : Nat) ({ cls := "SortingLoopLaw", name := "heldIn", desc := "(LSortingLoop;II[J)I" } : Jvm.MethodName)) ∈ lw_all := lw_g (lw_at lw_m11 41 rfl) rfl
theorem q2579 : (Jvm.Cond.static ({ cls := "SortingLoopLaw", name := "heldIn", desc := "(LSortingLoop;II[J)I" } : Jvm.MethodName)) ∈ lw_all := lw_g (lw_at lw_m11 42 rfl) rfl
theorem q2580 : (Jvm.Cond.codeWith ({ cls := "SortingLoopLaw", name := "heldIn", desc := "(LSortingLoop;II[J)I" } : Jvm.MethodName) method_16_code (5 : Nat) (Option.some Jvm.ClassFile.FieldType.int) [((0 : Nat), (10 : Nat), (13 : Nat), (22 : Nat)), ((0 : Nat), (10 : Nat), (17 : Nat), (13 : Nat))]) ∈ lw_all := lw_g (lw_at lw_m11 43 rfl) rfl
theorem q2581 : (Jvm.Cond.methodLink "SortingLoopLaw" (54 : Nat) ({ cls := "SortingLoop", name := "heldIn", desc := "(II)I" } : Jvm.MethodName)) ∈ lw_all := lw_g (lw_at lw_m11 44 rfl) rfl
theorem q2585 : (Jvm.Cond.methodLink "SortingLoopLaw" (183 : Nat) ({ cls := "SortingLoopLaw", name := "growsIn", desc := "(LSortingLoop;II[J)I" } : Jvm.MethodName)) ∈ lw_all := lw_g (lw_at lw_m11 48 rfl) rfl
theorem q2586 : (Jvm.Cond.static ({ cls := "SortingLoopLaw", name := "growsIn", desc := "(LSortingLoop;II[J)I" } : Jvm.MethodName)) ∈ lw_all := lw_g (lw_at lw_m11 49 rfl) rfl
theorem q2587 : (Jvm.Cond.codeWith ({ cls := "SortingLoopLaw", name := "growsIn", desc := "(LSortingLoop;II[J)I" } : Jvm.MethodName) method_17_code (5 : Nat) (Option.some Jvm.ClassFile.FieldType.int) [((0 : Nat), (10 : Nat), (13 : Nat), (13 : Nat))]) ∈ lw_all := lw_g (lw_at lw_m11 50 rfl) rfl
theorem q2588 : (Jvm.Cond.methodLink "SortingLoopLaw" (57 : Nat) ({ cls := "SortingLoop", name := "growsIn", desc := "(II)I" } : Jvm.MethodName)) ∈ lw_all := lw_g (lw_at lw_m11 51 rfl) rfl
theorem q2592 : (Jvm.Cond.methodLink "SortingLoopLaw" (186 : Nat) ({ cls := "SortingLoopLaw", name := "gainOf", desc := "(LSortingLoop;II[J)I" } : Jvm.MethodName)) ∈ lw_all := lw_g (lw_at lw_m11 55 rfl) rfl
theorem q2593 : (Jvm.Cond.static ({ cls := "SortingLoopLaw", name := "gainOf", desc := "(LSortingLoop;II[J)I" } : Jvm.MethodName)) ∈ lw_all := lw_g (lw_at lw_m11 56 rfl) rfl
theorem q2594 : (Jvm.Cond.codeWith ({ cls := "SortingLoopLaw", name := "gainOf", desc := "(LSortingLoop;II[J)I" } : Jvm.MethodName) method_18_code (5 : Nat) (Option.some Jvm.ClassFile.FieldType.int) [((0 : Nat), (10 : Nat), (13 : Nat), (22 : Nat)), ((0 : Nat), (10 : Nat), (17 : Nat), (13 : Nat))]) ∈ lw_all := lw_g (lw_at lw_m11 57 rfl) rfl
theorem q2595 : (Jvm.Cond.methodLink "SortingLoopLaw" (60 : Nat) ({ cls := "SortingLoop", name := "gainOf", desc := "(II)I" } : Jvm.MethodName)) ∈ lw_all := lw_g (lw_at lw_m11 58 rfl) rfl
theorem q2605 : (Jvm.Cond.methodLink "SortingLoopLaw" (189 : Nat) ({ cls := "SortingLoopLaw", name := "bestEmpty", desc := "(LSortingLoop;I[J)I" } : Jvm.MethodName)) ∈ lw_all := lw_g (lw_at lw_m11 68 rfl) rfl
theorem q2606 : (Jvm.Cond.static ({ cls := "SortingLoopLaw", name := "bestEmpty", desc := "(LSortingLoop;I[J)I" } : Jvm.MethodName)) ∈ lw_all := lw_g (lw_at lw_m11 69 rfl) rfl
theorem q2607 : (Jvm.Cond.codeWith ({ cls := "SortingLoopLaw", name := "bestEmpty", desc := "(LSortingLoop;I[J)I" } : Jvm.MethodName) method_19_code (4 : Nat) (Option.some Jvm.ClassFile.FieldType.int) [((0 : Nat), (9 : Nat), (12 : Nat), (13 : Nat))]) ∈ lw_all := lw_g (lw_at lw_m11 70 rfl) rfl
theorem q2608 : (Jvm.Cond.methodLink "SortingLoopLaw" (63 : Nat) ({ cls := "SortingLoop", name := "bestEmpty", desc := "(I)I" } : Jvm.MethodName)) ∈ lw_all := lw_g (lw_at lw_m11 71 rfl) rfl
theorem q2612 : (Jvm.Cond.methodLink "SortingLoopLaw" (192 : Nat) ({ cls := "SortingLoopLaw", name := "missortsIf", desc := "(LSortingLoop;III[J)I" } : Jvm.MethodName)) ∈ lw_all := lw_g (lw_at lw_m11 75 rfl) rfl
theorem q2613 : (Jvm.Cond.static ({ cls := "SortingLoopLaw", name := "missortsIf", desc := "(LSortingLoop;III[J)I" } : Jvm.MethodName)) ∈ lw_all := lw_g (lw_at lw_m11 76 rfl) rfl
theorem q2614 : (Jvm.Cond.codeWith ({ cls := "SortingLoopLaw", name := "missortsIf", desc := "(LSortingLoop;III[J)I" } : Jvm.MethodName) method_20_code (6 : Nat) (Option.some Jvm.ClassFile.FieldType.int) [((0 : Nat), (12 : Nat), (15 : Nat), (22 : Nat)), ((0 : Nat), (12 : Nat), (19 : Nat), (13 : Nat))]) ∈ lw_all := lw_g (lw_at lw_m11 77 rfl) rfl
theorem q2615 : (Jvm.Cond.methodLink "SortingLoopLaw" (66 : Nat) ({ cls := "SortingLoop", name := "missortsIf", desc := "(III)I" } : Jvm.MethodName)) ∈ lw_all := lw_g (lw_at lw_m11 78 rfl) rfl
theorem q2621 : (Jvm.Cond.methodLink "SortingLoopLaw" (219 : Nat) ({ cls := "SortingLoopLaw", name := "put", desc := "(LSortingLoop;II[J)I" } : Jvm.MethodName)) ∈ lw_all := lw_g (lw_at lw_m11 84 rfl) rfl
theorem q2622 : (Jvm.Cond.static ({ cls := "SortingLoopLaw", name := "put", desc := "(LSortingLoop;II[J)I" } : Jvm.MethodName)) ∈ lw_all := lw_g (lw_at lw_m11 85 rfl) rfl
theorem q2623 : (Jvm.Cond.codeWith ({ cls := "SortingLoopLaw", name := "put", desc := "(LSortingLoop;II[J)I" } : Jvm.MethodName) method_21_code (5 : Nat) (Option.some Jvm.ClassFile.FieldType.int) [((0 : Nat), (10 : Nat), (13 : Nat), (22 : Nat)), ((0 : Nat), (10 : Nat), (17 : Nat), (13 : Nat)), ((0 : Nat), (10 : Nat), (21 : Nat), (73 : Nat))]) ∈ lw_all := lw_g (lw_at lw_m11 86 rfl) rfl
theorem q2624 : (Jvm.Cond.classLink "SortingLoopLaw" (73 : Nat) "java/lang/IllegalStateException") ∈ lw_all := lw_g (lw_at lw_m11 87 rfl) rfl
theorem q2625 : (Jvm.Cond.methodLink "SortingLoopLaw" (70 : Nat) ({ cls := "SortingLoop", name := "put", desc := "(II)I" } : Jvm.MethodName)) ∈ lw_all := lw_g (lw_at lw_m11 88 rfl) rfl
theorem q2639 : (Jvm.Cond.methodLink "SortingLoopLaw" (222 : Nat) ({ cls := "SortingLoopLaw", name := "tick", desc := "(LSortingLoop;I[J)I" } : Jvm.MethodName)) ∈ lw_all := lw_g (lw_at lw_m11 102 rfl) rfl
theorem q2640 : (Jvm.Cond.static ({ cls := "SortingLoopLaw", name := "tick", desc := "(LSortingLoop;I[J)I" } : Jvm.MethodName)) ∈ lw_all := lw_g (lw_at lw_m11 103 rfl) rfl
theorem q2641 : (Jvm.Cond.codeWith ({ cls := "SortingLoopLaw", name := "tick", desc := "(LSortingLoop;I[J)I" } : Jvm.MethodName) method_22_code (4 : Nat) (Option.some Jvm.ClassFile.FieldType.int) [((0 : Nat), (9 : Nat), (12 : Nat), (13 : Nat)), ((0 : Nat), (9 : Nat), (15 : Nat), (73 : Nat))]) ∈ lw_all := lw_g (lw_at lw_m11 104 rfl) rfl
theorem q2642 : (Jvm.Cond.methodLink "SortingLoopLaw" (75 : Nat) ({ cls := "SortingLoop", name := "tick", desc := "(I)I" } : Jvm.MethodName)) ∈ lw_all := lw_g (lw_at lw_m11 105 rfl) rfl
theorem q2646 : (Jvm.Cond.methodLink "SortingLoopLaw" (225 : Nat) ({ cls := "SortingLoopLaw", name := "slip", desc := "(LSortingLoop;I[J)I" } : Jvm.MethodName)) ∈ lw_all := lw_g (lw_at lw_m11 109 rfl) rfl
theorem q2647 : (Jvm.Cond.static ({ cls := "SortingLoopLaw", name := "slip", desc := "(LSortingLoop;I[J)I" } : Jvm.MethodName)) ∈ lw_all := lw_g (lw_at lw_m11 110 rfl) rfl
theorem q2648 : (Jvm.Cond.codeWith ({ cls := "SortingLoopLaw", name := "slip", desc := "(LSortingLoop;I[J)I" } : Jvm.MethodName) method_23_code (4 : Nat) (Option.some Jvm.ClassFile.FieldType.int) [((0 : Nat), (9 : Nat), (12 : Nat), (22 : Nat)), ((0 : Nat), (9 : Nat), (15 : Nat), (73 : Nat))]) ∈ lw_all := lw_g (lw_at lw_m11 111 rfl) rfl
theorem q2649 : (Jvm.Cond.methodLink "SortingLoopLaw" (78 : Nat) ({ cls := "SortingLoop", name := "slip", desc := "(I)I" } : Jvm.MethodName)) ∈ lw_all := lw_g (lw_at lw_m11 112 rfl) rfl
theorem q2654 : (Jvm.Cond.methodLink "SortingLoopLaw" (228 : Nat) ({ cls := "SortingLoopLaw", name := "empty", desc := "(LSortingLoop;I[J)I" } : Jvm.MethodName)) ∈ lw_all := lw_g (lw_at lw_m11 117 rfl) rfl
theorem q2655 : (Jvm.Cond.static ({ cls := "SortingLoopLaw", name := "empty", desc := "(LSortingLoop;I[J)I" } : Jvm.MethodName)) ∈ lw_all := lw_g (lw_at lw_m11 118 rfl) rfl
theorem q2656 : (Jvm.Cond.codeWith ({ cls := "SortingLoopLaw", name := "empty", desc := "(LSortingLoop;I[J)I" } : Jvm.MethodName) method_24_code (4 : Nat) (Option.some Jvm.ClassFile.FieldType.int) [((0 : Nat), (9 : Nat), (12 : Nat), (22 : Nat))]) ∈ lw_all := lw_g (lw_at lw_m11 119 rfl) rfl
theorem q2657 : (Jvm.Cond.methodLink "SortingLoopLaw" (81 : Nat) ({ cls := "SortingLoop", name := "empty", desc := "(I)I" } : Jvm.MethodName)) ∈ lw_all := lw_g (lw_at lw_m11 120 rfl) rfl
theorem q2661 : (Jvm.Cond.methodLink "SortingLoopLaw" (231 : Nat) ({ cls := "SortingLoopLaw", name := "shut", desc := "(LSortingLoop;IZ[J)I" } : Jvm.MethodName)) ∈ lw_all := lw_g (lw_at lw_m11 124 rfl) rfl
theorem q2662 : (Jvm.Cond.static ({ cls := "SortingLoopLaw", name := "shut", desc := "(LSortingLoop;IZ[J)I" } : Jvm.MethodName)) ∈ lw_all := lw_g (lw_at lw_m11 125 rfl) rfl
theorem q2663 : (Jvm.Cond.codeWith ({ cls := "SortingLoopLaw", name := "shut", desc := "(LSortingLoop;IZ[J)I" } : Jvm.MethodName) method_25_code (5 : Nat) (Option.some Jvm.ClassFile.FieldType.int) [((0 : Nat), (10 : Nat), (13 : Nat), (22 : Nat))]) ∈ lw_all := lw_g (lw_at lw_m11 126 rfl) rfl
theorem q2664 : (Jvm.Cond.methodLink "SortingLoopLaw" (84 : Nat) ({ cls := "SortingLoop", name := "shut", desc := "(IZ)I" } : Jvm.MethodName)) ∈ lw_all := lw_g (lw_at lw_m11 127 rfl) rfl
theorem q2668 : (Jvm.Cond.methodLink "SortingLoopLaw" (235 : Nat) ({ cls := "SortingLoopLaw", name := "set", desc := "(LSortingLoop;II[J)I" } : Jvm.MethodName)) ∈ lw_all := lw_g (lw_at lw_m11 131 rfl) rfl
theorem q2669 : (Jvm.Cond.static ({ cls := "SortingLoopLaw", name := "set", desc := "(LSortingLoop;II[J)I" } : Jvm.MethodName)) ∈ lw_all := lw_g (lw_at lw_m11 132 rfl) rfl
theorem q2670 : (Jvm.Cond.codeWith ({ cls := "SortingLoopLaw", name := "set", desc := "(LSortingLoop;II[J)I" } : Jvm.MethodName) method_26_code (5 : Nat) (Option.some Jvm.ClassFile.FieldType.int) [((0 : Nat), (10 : Nat), (13 : Nat), (22 : Nat)), ((0 : Nat), (10 : Nat), (17 : Nat), (13 : Nat))]) ∈ lw_all := lw_g (lw_at lw_m11 133 rfl) rfl
theorem q2671 : (Jvm.Cond.methodLink "SortingLoopLaw" (88 : Nat) ({ cls := "SortingLoop", name := "set", desc := "(II)I" } : Jvm.MethodName)) ∈ lw_all := lw_g (lw_at lw_m11 134 rfl) rfl
theorem q2677 : (Jvm.Cond.methodLink "SortingLoopLaw" (238 : Nat) ({ cls := "SortingLoopLaw", name := "undo", desc := "(LSortingLoop;[J)I" } : Jvm.MethodName)) ∈ lw_all := lw_g (lw_at lw_m11 140 rfl) rfl
theorem q2678 : (Jvm.Cond.static ({ cls := "SortingLoopLaw", name := "undo", desc := "(LSortingLoop;[J)I" } : Jvm.MethodName)) ∈ lw_all := lw_g (lw_at lw_m11 141 rfl) rfl
theorem q2679 : (Jvm.Cond.codeWith ({ cls := "SortingLoopLaw", name := "undo", desc := "(LSortingLoop;[J)I" } : Jvm.MethodName) method_27_code (3 : Nat) (Option.some Jvm.ClassFile.FieldType.int) [((0 : Nat), (8 : Nat), (11 : Nat), (95 : Nat))]) ∈ lw_all := lw_g (lw_at lw_m11 142 rfl) rfl
theorem q2680 : (Jvm.Cond.classLink "SortingLoopLaw" (95 : Nat) "java/util/NoSuchElementException") ∈ lw_all := lw_g (lw_at lw_m11 143 rfl) rfl
theorem q2681 : (Jvm.Cond.methodLink "SortingLoopLaw" (91 : Nat) ({ cls := "SortingLoop", name := "undo", desc := "()I" } : Jvm.MethodName)) ∈ lw_all := lw_g (lw_at lw_m11 144 rfl) rfl
theorem q2705 : (Jvm.Cond.methodLink "SortingLoopLaw" (258 : Nat) ({ cls := "SortingLoopLaw", name := "restoreState", desc := "(LSortingLoop;[J)I" } : Jvm.MethodName)) ∈ lw_all := lw_g (lw_at lw_m11 168 rfl) rfl
theorem q2706 : (Jvm.Cond.static ({ cls := "SortingLoopLaw", name := "restoreState", desc := "(LSortingLoop;[J)I" } : Jvm.MethodName)) ∈ lw_all := lw_g (lw_at lw_m11 169 rfl) rfl
theorem q2707 : (Jvm.Cond.codeWith ({ cls := "SortingLoopLaw", name := "restoreState", desc := "(LSortingLoop;[J)I" } : Jvm.MethodName) method_28_code (3 : Nat) (Option.some Jvm.ClassFile.FieldType.int) [((0 : Nat), (8 : Nat), (11 : Nat), (95 : Nat))]) ∈ lw_all := lw_g (lw_at lw_m11 170 rfl) rfl
theorem q2708 : (Jvm.Cond.methodLink "SortingLoopLaw" (97 : Nat) ({ cls := "SortingLoop", name := "restoreState", desc := "()I" } : Jvm.MethodName)) ∈ lw_all := lw_g (lw_at lw_m11 171 rfl) rfl
theorem q2712 : (Jvm.Cond.classLink "SortingLoopLaw" (101 : Nat) "SortingLoopModel") ∈ lw_all := lw_g (lw_at lw_m11 175 rfl) rfl
theorem q2714 : (Jvm.Cond.methodLink "SortingLoopLaw" (103 : Nat) ({ cls := "SortingLoopModel", name := "<init>", desc := "()V" } : Jvm.MethodName)) ∈ lw_all := lw_g (lw_at lw_m11 177 rfl) rfl
theorem q2809 : (Jvm.Cond.methodLink "SortingLoopLaw" (136 : Nat) ({ cls := "SortingLoopModel", name := "thrown", desc := "()I" } : Jvm.MethodName)) ∈ lw_all := lw_g (lw_at lw_m12 32 rfl) rfl
theorem q2813 : (Jvm.Cond.methodLink "SortingLoopLaw" (108 : Nat) ({ cls := "SortingLoopModel", name := "appendInput", desc := "(IIIII)I" } : Jvm.MethodName)) ∈ lw_all := lw_g (lw_at lw_m12 36 rfl) rfl
theorem q2821 : (Jvm.Cond.methodLink "SortingLoopLaw" (113 : Nat) ({ cls := "SortingLoopModel", name := "truncateInput", desc := "(I)Z" } : Jvm.MethodName)) ∈ lw_all := lw_g (lw_at lw_m12 44 rfl) rfl
theorem q2828 : (Jvm.Cond.methodLink "SortingLoopLaw" (117 : Nat) ({ cls := "SortingLoopModel", name := "loadLoop", desc := "()I" } : Jvm.MethodName)) ∈ lw_all := lw_g (lw_at lw_m12 51 rfl) rfl
theorem q2921 : (Jvm.Cond.methodLink "SortingLoopLaw" (121 : Nat) ({ cls := "SortingLoopModel", name := "playScript", desc := "()I" } : Jvm.MethodName)) ∈ lw_all := lw_g (lw_at lw_m12 144 rfl) rfl
theorem q3063 : (Jvm.Cond.methodLink "SortingLoopLaw" (125 : Nat) ({ cls := "SortingLoopModel", name := "errorCode", desc := "()I" } : Jvm.MethodName)) ∈ lw_all := lw_g (lw_at lw_m13 46 rfl) rfl
theorem q3067 : (Jvm.Cond.methodLink "SortingLoopLaw" (129 : Nat) ({ cls := "SortingLoopModel", name := "errorOffset", desc := "()I" } : Jvm.MethodName)) ∈ lw_all := lw_g (lw_at lw_m13 50 rfl) rfl
theorem q3071 : (Jvm.Cond.methodLink "SortingLoopLaw" (135 : Nat) ({ cls := "SortingLoopModel", name := "count", desc := "(I)I" } : Jvm.MethodName)) ∈ lw_all := lw_g (lw_at lw_m13 54 rfl) rfl
theorem q3087 : (Jvm.Cond.methodLink "SortingLoopLaw" (141 : Nat) ({ cls := "SortingLoopModel", name := "account", desc := "(I)I" } : Jvm.MethodName)) ∈ lw_all := lw_g (lw_at lw_m13 70 rfl) rfl
theorem q3091 : (Jvm.Cond.methodLink "SortingLoopLaw" (145 : Nat) ({ cls := "SortingLoopModel", name := "cell", desc := "(II)I" } : Jvm.MethodName)) ∈ lw_all := lw_g (lw_at lw_m13 74 rfl) rfl
theorem q3103 : (Jvm.Cond.methodLink "SortingLoopLaw" (148 : Nat) ({ cls := "SortingLoopModel", name := "parcel", desc := "(II)I" } : Jvm.MethodName)) ∈ lw_all := lw_g (lw_at lw_m13 86 rfl) rfl
theorem q3111 : (Jvm.Cond.methodLink "SortingLoopLaw" (151 : Nat) ({ cls := "SortingLoopModel", name := "chute", desc := "(II)I" } : Jvm.MethodName)) ∈ lw_all := lw_g (lw_at lw_m13 94 rfl) rfl
theorem q3127 : (Jvm.Cond.methodLink "SortingLoopLaw" (154 : Nat) ({ cls := "SortingLoopModel", name := "held", desc := "(II)I" } : Jvm.MethodName)) ∈ lw_all := lw_g (lw_at lw_m13 110 rfl) rfl
theorem q3131 : (Jvm.Cond.methodLink "SortingLoopLaw" (157 : Nat) ({ cls := "SortingLoopModel", name := "steps", desc := "(II)I" } : Jvm.MethodName)) ∈ lw_all := lw_g (lw_at lw_m13 114 rfl) rfl
theorem q3135 : (Jvm.Cond.methodLink "SortingLoopLaw" (160 : Nat) ({ cls := "SortingLoopModel", name := "toScanner", desc := "(I)I" } : Jvm.MethodName)) ∈ lw_all := lw_g (lw_at lw_m13 118 rfl) rfl
theorem q3148 : (Jvm.Cond.methodLink "SortingLoopLaw" (163 : Nat) ({ cls := "SortingLoopModel", name := "toChute", desc := "(I)I" } : Jvm.MethodName)) ∈ lw_all := lw_g (lw_at lw_m13 131 rfl) rfl
theorem q3156 : (Jvm.Cond.methodLink "SortingLoopLaw" (166 : Nat) ({ cls := "SortingLoopModel", name := "why", desc := "(II)I" } : Jvm.MethodName)) ∈ lw_all := lw_g (lw_at lw_m13 139 rfl) rfl
theorem q3172 : (Jvm.Cond.methodLink "SortingLoopLaw" (170 : Nat) ({ cls := "SortingLoopModel", name := "whyNoPut", desc := "()I" } : Jvm.MethodName)) ∈ lw_all := lw_g (lw_at lw_m13 155 rfl) rfl
theorem q3176 : (Jvm.Cond.methodLink "SortingLoopLaw" (173 : Nat) ({ cls := "SortingLoopModel", name := "whyNoSlip", desc := "(I)I" } : Jvm.MethodName)) ∈ lw_all := lw_g (lw_at lw_m13 159 rfl) rfl
theorem q3180 : (Jvm.Cond.methodLink "SortingLoopLaw" (176 : Nat) ({ cls := "SortingLoopModel", name := "leavesIn", desc := "(I)I" } : Jvm.MethodName)) ∈ lw_all := lw_g (lw_at lw_m13 163 rfl) rfl
theorem q3192 : (Jvm.Cond.methodLink "SortingLoopLaw" (179 : Nat) ({ cls := "SortingLoopModel", name := "endsAs", desc := "(II)I" } : Jvm.MethodName)) ∈ lw_all := lw_g (lw_at lw_m13 175 rfl) rfl
theorem q3204 : (Jvm.Cond.methodLink "SortingLoopLaw" (182 : Nat) ({ cls := "SortingLoopModel", name := "heldIn", desc := "(II)I" } : Jvm.MethodName)) ∈ lw_all := lw_g (lw_at lw_m13 187 rfl) rfl
theorem q3208 : (Jvm.Cond.methodLink "SortingLoopLaw" (185 : Nat) ({ cls := "SortingLoopModel", name := "growsIn", desc := "(II)I" } : Jvm.MethodName)) ∈ lw_all := lw_g (lw_at lw_m13 191 rfl) rfl
theorem q3216 : (Jvm.Cond.methodLink "SortingLoopLaw" (188 : Nat) ({ cls := "SortingLoopModel", name := "gainOf", desc := "(II)I" } : Jvm.MethodName)) ∈ lw_all := lw_g (lw_at lw_m13 199 rfl) rfl
theorem q3224 : (Jvm.Cond.methodLink "SortingLoopLaw" (191 : Nat) ({ cls := "SortingLoopModel", name := "bestEmpty", desc := "(I)I" } : Jvm.MethodName)) ∈ lw_all := lw_g (lw_at lw_m13 207 rfl) rfl
theorem q3228 : (Jvm.Cond.methodLink "SortingLoopLaw" (195 : Nat) ({ cls := "SortingLoopModel", name := "missortsIf", desc := "(III)I" } : Jvm.MethodName)) ∈ lw_all := lw_g (lw_at lw_m13 211 rfl) rfl
theorem q3232 : (Jvm.Cond.methodLink "SortingLoopLaw" (199 : Nat) ({ cls := "SortingLoopModel", name := "clearIn", desc := "()I" } : Jvm.MethodName)) ∈ lw_all := lw_g (lw_at lw_m13 215 rfl) rfl
theorem q3236 : (Jvm.Cond.methodLink "SortingLoopLaw" (203 : Nat) ({ cls := "SortingLoopModel", name := "freeIn", desc := "()I" } : Jvm.MethodName)) ∈ lw_all := lw_g (lw_at lw_m13 219 rfl) rfl
theorem q3240 : (Jvm.Cond.methodLink "SortingLoopLaw" (208 : Nat) ({ cls := "SortingLoopModel", name := "agree", desc := "()Z" } : Jvm.MethodName)) ∈ lw_all := lw_g (lw_at lw_m13 223 rfl) rfl
theorem q3252 : (Jvm.Cond.methodLink "SortingLoopLaw" (213 : Nat) ({ cls := "SortingLoopModel", name := "sortedPart", desc := "()D" } : Jvm.MethodName)) ∈ lw_all := lw_g (lw_at lw_m13 235 rfl) rfl
theorem q3256 : (Jvm.Cond.methodLink "SortingLoopLaw" (218 : Nat) ({ cls := "SortingLoopModel", name := "load", desc := "()F" } : Jvm.MethodName)) ∈ lw_all := lw_g (lw_at lw_m13 239 rfl) rfl
theorem q3260 : (Jvm.Cond.methodLink "SortingLoopLaw" (221 : Nat) ({ cls := "SortingLoopModel", name := "put", desc := "(II)I" } : Jvm.MethodName)) ∈ lw_all := lw_g (lw_at lw_m14 3 rfl) rfl
theorem q3264 : (Jvm.Cond.methodLink "SortingLoopLaw" (224 : Nat) ({ cls := "SortingLoopModel", name := "tick", desc := "(I)I" } : Jvm.MethodName)) ∈ lw_all := lw_g (lw_at lw_m14 7 rfl) rfl
theorem q3268 : (Jvm.Cond.methodLink "SortingLoopLaw" (227 : Nat) ({ cls := "SortingLoopModel", name := "slip", desc := "(I)I" } : Jvm.MethodName)) ∈ lw_all := lw_g (lw_at lw_m14 11 rfl) rfl
theorem q3272 : (Jvm.Cond.methodLink "SortingLoopLaw" (230 : Nat) ({ cls := "SortingLoopModel", name := "empty", desc := "(I)I" } : Jvm.MethodName)) ∈ lw_all := lw_g (lw_at lw_m14 15 rfl) rfl
theorem q3276 : (Jvm.Cond.methodLink "SortingLoopLaw" (234 : Nat) ({ cls := "SortingLoopModel", name := "shut", desc := "(IZ)I" } : Jvm.MethodName)) ∈ lw_all := lw_g (lw_at lw_m14 19 rfl) rfl
theorem q3280 : (Jvm.Cond.methodLink "SortingLoopLaw" (237 : Nat) ({ cls := "SortingLoopModel", name := "set", desc := "(II)I" } : Jvm.MethodName)) ∈ lw_all := lw_g (lw_at lw_m14 23 rfl) rfl
theorem q3284 : (Jvm.Cond.methodLink "SortingLoopLaw" (241 : Nat) ({ cls := "SortingLoopModel", name := "undo", desc := "()I" } : Jvm.MethodName)) ∈ lw_all := lw_g (lw_at lw_m14 27 rfl) rfl
theorem q3288 : (Jvm.Cond.methodLink "SortingLoopLaw" (245 : Nat) ({ cls := "SortingLoopModel", name := "printLoop", desc := "()I" } : Jvm.MethodName)) ∈ lw_all := lw_g (lw_at lw_m14 31 rfl) rfl
theorem q3300 : (Jvm.Cond.methodLink "SortingLoopLaw" (249 : Nat) ({ cls := "SortingLoopModel", name := "printChutes", desc := "()I" } : Jvm.MethodName)) ∈ lw_all := lw_g (lw_at lw_m14 43 rfl) rfl
theorem q3308 : (Jvm.Cond.methodLink "SortingLoopLaw" (253 : Nat) ({ cls := "SortingLoopModel", name := "outputByte", desc := "(I)I" } : Jvm.MethodName)) ∈ lw_all := lw_g (lw_at lw_m14 51 rfl) rfl
theorem q3312 : (Jvm.Cond.methodLink "SortingLoopLaw" (257 : Nat) ({ cls := "SortingLoopModel", name := "saveState", desc := "()I" } : Jvm.MethodName)) ∈ lw_all := lw_g (lw_at lw_m14 55 rfl) rfl
theorem q3316 : (Jvm.Cond.methodLink "SortingLoopLaw" (260 : Nat) ({ cls := "SortingLoopModel", name := "restoreState", desc := "()I" } : Jvm.MethodName)) ∈ lw_all := lw_g (lw_at lw_m14 59 rfl) rfl

/-! SortingLoop$Script -/
set_option maxRecDepth 100000
def RX10 : String := "SortingLoop$Script"
def TX10 : u_T := fun k => match k with
  | 0 => ("SortingLoop$Parser", "start", "I", false)
  | 1 => ("SortingLoop$Parser", "next", "I", false)
  | 2 => ("SortingLoop$Parser", "token", "I", false)
  | 3 => ("SortingLoop$Parser", "value", "I", false)
  | 4 => ("SortingLoop$Parser", "word", "Ljava/lang/String;", false)
  | 5 => ("SortingLoop$Parser", "this$0", "LSortingLoop;", true)
  | 6 => ("SortingLoop$Script", "deeds", "Ljava/util/List;", true)
  | _ => ("SortingLoop$Script", "this$0", "LSortingLoop;", true)
def tyX10 : Nat → FieldType := fun k => match k with
  | 0 => .int
  | 1 => .int
  | 2 => .int
  | 3 => .int
  | 4 => .object "java/lang/String"
  | 5 => .object "SortingLoop"
  | 6 => .object "java/util/List"
  | _ => .object "SortingLoop"
abbrev wsX100 : List Cond := u_ws RX10 TX10 8
-- two fields of one name: no nmX10
theorem tyX10_ok : ∀ k, k < 8 → parseFieldDescriptor (TX10 k).2.2.1 = some (tyX10 k) := by decide +kernel
abbrev cX10_init : ByteArray := prog_13_method_1_code
def yX10_init : MethodName := ⟨RX10, "<init>", "(LSortingLoop;)V"⟩
def dkwX10_init_0 : List UInt8 := [42, 43, 181, 0, 3, 42, 43, 183, 0, 9, 42, 187, 0, 15, 89, 16, 30, 183, 0, 17, 181, 0, 20, 177]
abbrev dktX10_init_0 : List UInt8 := dkwX10_init_0 ++ []
theorem dksX10_init_0 : cX10_init.data.toList.drop 0 = dktX10_init_0 := by decide +kernel
theorem dX10_init_0 : decode cX10_init 0 = .ok (.aload_n 0, 1) := dk_42 (dk_at dksX10_init_0 0 rfl rfl)
theorem dX10_init_1 : decode cX10_init 1 = .ok (.aload_n 1, 1) := dk_43 (dk_at dksX10_init_0 1 rfl rfl)
theorem dX10_init_2 : decode cX10_init 2 = .ok (.putfield 3, 3) := dk_181 0 3 (dk_at dksX10_init_0 2 rfl rfl)
theorem dX10_init_5 : decode cX10_init 5 = .ok (.aload_n 0, 1) := dk_42 (dk_at dksX10_init_0 5 rfl rfl)
theorem dX10_init_6 : decode cX10_init 6 = .ok (.aload_n 1, 1) := dk_43 (dk_at dksX10_init_0 6 rfl rfl)
theorem dX10_init_7 : decode cX10_init 7 = .ok (.invokespecial 9, 3) := dk_183 0 9 (dk_at dksX10_init_0 7 rfl rfl)
theorem dX10_init_10 : decode cX10_init 10 = .ok (.aload_n 0, 1) := dk_42 (dk_at dksX10_init_0 10 rfl rfl)
theorem dX10_init_11 : decode cX10_init 11 = .ok (.new 15, 3) := dk_187 0 15 (dk_at dksX10_init_0 11 rfl rfl)
theorem dX10_init_14 : decode cX10_init 14 = .ok (.dup, 1) := dk_89 (dk_at dksX10_init_0 14 rfl rfl)
theorem dX10_init_15 : decode cX10_init 15 = .ok (.bipush 30, 2) := dk_16 30 (dk_at dksX10_init_0 15 rfl rfl)
theorem dX10_init_17 : decode cX10_init 17 = .ok (.invokespecial 17, 3) := dk_183 0 17 (dk_at dksX10_init_0 17 rfl rfl)
theorem dX10_init_20 : decode cX10_init 20 = .ok (.putfield 20, 3) := dk_181 0 20 (dk_at dksX10_init_0 20 rfl rfl)
theorem dX10_init_23 : decode cX10_init 23 = .ok (.return_, 1) := dk_177 (dk_at dksX10_init_0 23 rfl rfl)
abbrev cX10_read : ByteArray := prog_13_method_7_code
def yX10_read : MethodName := ⟨RX10, "read", "()Ljava/util/List;"⟩
def dkwX10_read_3 : List UInt8 := [167, 255, 187, 42, 180, 0, 20, 176]
abbrev dktX10_read_3 : List UInt8 := dkwX10_read_3 ++ []
def dkwX10_read_2 : List UInt8 := [182, 0, 113, 42, 180, 0, 20, 42, 43, 182, 0, 117, 185, 0, 121, 2, 0, 61, 42, 182, 0, 124]
abbrev dktX10_read_2 : List UInt8 := dkwX10_read_2 ++ dktX10_read_3
def dkwX10_read_1 : List UInt8 := [180, 0, 20, 185, 0, 59, 1, 0, 16, 30, 162, 0, 7, 4, 167, 0, 4, 3, 7, 182, 0, 109, 42]
abbrev dktX10_read_1 : List UInt8 := dkwX10_read_1 ++ dktX10_read_2
def dkwX10_read_0 : List UInt8 := [42, 182, 0, 97, 154, 0, 68, 42, 182, 0, 101, 76, 42, 42, 43, 182, 0, 105, 4, 182, 0, 109, 42, 42]
abbrev dktX10_read_0 : List UInt8 := dkwX10_read_0 ++ dktX10_read_1
theorem dksX10_read_0 : cX10_read.data.toList.drop 0 = dktX10_read_0 := by decide +kernel
theorem dksX10_read_1 : cX10_read.data.toList.drop 24 = dktX10_read_1 := dk_seg dksX10_read_0 24 rfl rfl
theorem dksX10_read_2 : cX10_read.data.toList.drop 47 = dktX10_read_2 := dk_seg dksX10_read_1 23 rfl rfl
theorem dksX10_read_3 : cX10_read.data.toList.drop 69 = dktX10_read_3 := dk_seg dksX10_read_2 22 rfl rfl
theorem dX10_read_0 : decode cX10_read 0 = .ok (.aload_n 0, 1) := dk_42 (dk_at dksX10_read_0 0 rfl rfl)
theorem dX10_read_1 : decode cX10_read 1 = .ok (.invokevirtual 97, 3) := dk_182 0 97 (dk_at dksX10_read_0 1 rfl rfl)
theorem dX10_read_4 : decode cX10_read 4 = .ok (.ifCond .ne 68, 3) := dk_154 0 68 (dk_at dksX10_read_0 4 rfl rfl)
theorem dX10_read_7 : decode cX10_read 7 = .ok (.aload_n 0, 1) := dk_42 (dk_at dksX10_read_0 7 rfl rfl)
theorem dX10_read_8 : decode cX10_read 8 = .ok (.invokevirtual 101, 3) := dk_182 0 101 (dk_at dksX10_read_0 8 rfl rfl)
theorem dX10_read_11 : decode cX10_read 11 = .ok (.astore_n 1, 1) := dk_76 (dk_at dksX10_read_0 11 rfl rfl)
theorem dX10_read_12 : decode cX10_read 12 = .ok (.aload_n 0, 1) := dk_42 (dk_at dksX10_read_0 12 rfl rfl)
theorem dX10_read_13 : decode cX10_read 13 = .ok (.aload_n 0, 1) := dk_42 (dk_at dksX10_read_0 13 rfl rfl)
theorem dX10_read_14 : decode cX10_read 14 = .ok (.aload_n 1, 1) := dk_43 (dk_at dksX10_read_0 14 rfl rfl)
theorem dX10_read_15 : decode cX10_read 15 = .ok (.invokevirtual 105, 3) := dk_182 0 105 (dk_at dksX10_read_0 15 rfl rfl)
theorem dX10_read_18 : decode cX10_read 18 = .ok (.iconst 1, 1) := dk_4 (dk_at dksX10_read_0 18 rfl rfl)
theorem dX10_read_19 : decode cX10_read 19 = .ok (.invokevirtual 109, 3) := dk_182 0 109 (dk_at dksX10_read_0 19 rfl rfl)
theorem dX10_read_22 : decode cX10_read 22 = .ok (.aload_n 0, 1) := dk_42 (dk_at dksX10_read_0 22 rfl rfl)
theorem dX10_read_23 : decode cX10_read 23 = .ok (.aload_n 0, 1) := dk_42 (dk_at dksX10_read_0 23 rfl rfl)
theorem dX10_read_24 : decode cX10_read 24 = .ok (.getfield 20, 3) := dk_180 0 20 (dk_at dksX10_read_1 0 rfl rfl)
theorem dX10_read_27 : decode cX10_read 27 = .ok (.invokeinterface 59 1, 5) := by decide +kernel
theorem dX10_read_32 : decode cX10_read 32 = .ok (.bipush 30, 2) := dk_16 30 (dk_at dksX10_read_1 8 rfl rfl)
theorem dX10_read_34 : decode cX10_read 34 = .ok (.if_icmp .ge 7, 3) := dk_162 0 7 (dk_at dksX10_read_1 10 rfl rfl)
theorem dX10_read_37 : decode cX10_read 37 = .ok (.iconst 1, 1) := dk_4 (dk_at dksX10_read_1 13 rfl rfl)
theorem dX10_read_38 : decode cX10_read 38 = .ok (.goto 4, 3) := dk_167 0 4 (dk_at dksX10_read_1 14 rfl rfl)
theorem dX10_read_41 : decode cX10_read 41 = .ok (.iconst 0, 1) := dk_3 (dk_at dksX10_read_1 17 rfl rfl)
theorem dX10_read_42 : decode cX10_read 42 = .ok (.iconst 4, 1) := dk_7 (dk_at dksX10_read_1 18 rfl rfl)
theorem dX10_read_43 : decode cX10_read 43 = .ok (.invokevirtual 109, 3) := dk_182 0 109 (dk_at dksX10_read_1 19 rfl rfl)
theorem dX10_read_46 : decode cX10_read 46 = .ok (.aload_n 0, 1) := dk_42 (dk_at dksX10_read_1 22 rfl rfl)
theorem dX10_read_47 : decode cX10_read 47 = .ok (.invokevirtual 113, 3) := dk_182 0 113 (dk_at dksX10_read_2 0 rfl rfl)
theorem dX10_read_50 : decode cX10_read 50 = .ok (.aload_n 0, 1) := dk_42 (dk_at dksX10_read_2 3 rfl rfl)
theorem dX10_read_51 : decode cX10_read 51 = .ok (.getfield 20, 3) := dk_180 0 20 (dk_at dksX10_read_2 4 rfl rfl)
theorem dX10_read_54 : decode cX10_read 54 = .ok (.aload_n 0, 1) := dk_42 (dk_at dksX10_read_2 7 rfl rfl)
theorem dX10_read_55 : decode cX10_read 55 = .ok (.aload_n 1, 1) := dk_43 (dk_at dksX10_read_2 8 rfl rfl)
theorem dX10_read_56 : decode cX10_read 56 = .ok (.invokevirtual 117, 3) := dk_182 0 117 (dk_at dksX10_read_2 9 rfl rfl)
theorem dX10_read_59 : decode cX10_read 59 = .ok (.invokeinterface 121 2, 5) := by decide +kernel
theorem dX10_read_64 : decode cX10_read 64 = .ok (.istore_n 2, 1) := dk_61 (dk_at dksX10_read_2 17 rfl rfl)
theorem dX10_read_65 : decode cX10_read 65 = .ok (.aload_n 0, 1) := dk_42 (dk_at dksX10_read_2 18 rfl rfl)
theorem dX10_read_66 : decode cX10_read 66 = .ok (.invokevirtual 124, 3) := dk_182 0 124 (dk_at dksX10_read_2 19 rfl rfl)
theorem dX10_read_69 : decode cX10_read 69 = .ok (.goto (-69), 3) := dk_167 255 187 (dk_at dksX10_read_3 0 rfl rfl)
theorem dX10_read_72 : decode cX10_read 72 = .ok (.aload_n 0, 1) := dk_42 (dk_at dksX10_read_3 3 rfl rfl)
theorem dX10_read_73 : decode cX10_read 73 = .ok (.getfield 20, 3) := dk_180 0 20 (dk_at dksX10_read_3 4 rfl rfl)
theorem dX10_read_76 : decode cX10_read 76 = .ok (.areturn, 1) := dk_176 (dk_at dksX10_read_3 7 rfl rfl)
abbrev cX10_isDeed : ByteArray := prog_13_method_2_code
def yX10_isDeed : MethodName := ⟨RX10, "isDeed", "(Ljava/lang/String;)Z"⟩
def dkwX10_isDeed_8 : List UInt8 := [4, 167, 0, 4, 3, 172]
abbrev dktX10_isDeed_8 : List UInt8 := dkwX10_isDeed_8 ++ []
def dkwX10_isDeed_7 : List UInt8 := [170, 0, 0, 0, 0, 0, 0, 52, 0, 0, 0, 0, 0, 0, 0, 7, 0, 0, 0, 48, 0, 0, 0, 48, 0, 0, 0, 48, 0, 0, 0, 48, 0, 0, 0, 48, 0, 0, 0, 48, 0, 0, 0, 48, 0, 0, 0, 48]
abbrev dktX10_isDeed_7 : List UInt8 := dkwX10_isDeed_7 ++ dktX10_isDeed_8
def dkwX10_isDeed_6 : List UInt8 := [62, 167, 0, 15, 44, 18, 48, 182, 0, 32, 153, 0, 6, 16, 7, 62, 29]
abbrev dktX10_isDeed_6 : List UInt8 := dkwX10_isDeed_6 ++ dktX10_isDeed_7
def dkwX10_isDeed_5 : List UInt8 := [18, 44, 182, 0, 32, 153, 0, 35, 8, 62, 167, 0, 30, 44, 18, 46, 182, 0, 32, 153, 0, 21, 16, 6]
abbrev dktX10_isDeed_5 : List UInt8 := dkwX10_isDeed_5 ++ dktX10_isDeed_6
def dkwX10_isDeed_4 : List UInt8 := [153, 0, 63, 6, 62, 167, 0, 58, 44, 18, 42, 182, 0, 32, 153, 0, 49, 7, 62, 167, 0, 44, 44]
abbrev dktX10_isDeed_4 : List UInt8 := dkwX10_isDeed_4 ++ dktX10_isDeed_5
def dkwX10_isDeed_3 : List UInt8 := [62, 167, 0, 86, 44, 18, 38, 182, 0, 32, 153, 0, 77, 5, 62, 167, 0, 72, 44, 18, 40, 182, 0, 32]
abbrev dktX10_isDeed_3 : List UInt8 := dkwX10_isDeed_3 ++ dktX10_isDeed_4
def dkwX10_isDeed_2 : List UInt8 := [44, 18, 30, 182, 0, 32, 153, 0, 105, 3, 62, 167, 0, 100, 44, 18, 36, 182, 0, 32, 153, 0, 91, 4]
abbrev dktX10_isDeed_2 : List UInt8 := dkwX10_isDeed_2 ++ dktX10_isDeed_3
def dkwX10_isDeed_1 : List UInt8 := [171, 0, 0, 0, 0, 0, 0, 187, 0, 0, 0, 8, 200, 219, 128, 165, 0, 0, 0, 175, 209, 11, 219, 240, 0, 0, 0, 160, 0, 1, 179, 15, 0, 0, 0, 76, 0, 52, 38, 74, 0, 0, 0, 146, 0, 53, 219, 180, 0, 0, 0, 132, 0, 53, 233, 64, 0, 0, 0, 104, 0, 54, 81, 157, 0, 0, 0, 90, 5, 194, 133, 77, 0, 0, 0, 118]
abbrev dktX10_isDeed_1 : List UInt8 := dkwX10_isDeed_1 ++ dktX10_isDeed_2
def dkwX10_isDeed_0 : List UInt8 := [43, 77, 2, 62, 44, 182, 0, 24]
abbrev dktX10_isDeed_0 : List UInt8 := dkwX10_isDeed_0 ++ dktX10_isDeed_1
theorem dksX10_isDeed_0 : cX10_isDeed.data.toList.drop 0 = dktX10_isDeed_0 := by decide +kernel
theorem dksX10_isDeed_1 : cX10_isDeed.data.toList.drop 8 = dktX10_isDeed_1 := dk_seg dksX10_isDeed_0 8 rfl rfl
theorem dksX10_isDeed_2 : cX10_isDeed.data.toList.drop 84 = dktX10_isDeed_2 := dk_seg dksX10_isDeed_1 76 rfl rfl
theorem dksX10_isDeed_3 : cX10_isDeed.data.toList.drop 108 = dktX10_isDeed_3 := dk_seg dksX10_isDeed_2 24 rfl rfl
theorem dksX10_isDeed_4 : cX10_isDeed.data.toList.drop 132 = dktX10_isDeed_4 := dk_seg dksX10_isDeed_3 24 rfl rfl
theorem dksX10_isDeed_5 : cX10_isDeed.data.toList.drop 155 = dktX10_isDeed_5 := dk_seg dksX10_isDeed_4 23 rfl rfl
theorem dksX10_isDeed_6 : cX10_isDeed.data.toList.drop 179 = dktX10_isDeed_6 := dk_seg dksX10_isDeed_5 24 rfl rfl
theorem dksX10_isDeed_7 : cX10_isDeed.data.toList.drop 196 = dktX10_isDeed_7 := dk_seg dksX10_isDeed_6 17 rfl rfl
theorem dksX10_isDeed_8 : cX10_isDeed.data.toList.drop 244 = dktX10_isDeed_8 := dk_seg dksX10_isDeed_7 48 rfl rfl
theorem dX10_isDeed_0 : decode cX10_isDeed 0 = .ok (.aload_n 1, 1) := dk_43 (dk_at dksX10_isDeed_0 0 rfl rfl)
theorem dX10_isDeed_1 : decode cX10_isDeed 1 = .ok (.astore_n 2, 1) := dk_77 (dk_at dksX10_isDeed_0 1 rfl rfl)
theorem dX10_isDeed_2 : decode cX10_isDeed 2 = .ok (.iconst (-1), 1) := dk_2 (dk_at dksX10_isDeed_0 2 rfl rfl)
theorem dX10_isDeed_3 : decode cX10_isDeed 3 = .ok (.istore_n 3, 1) := dk_62 (dk_at dksX10_isDeed_0 3 rfl rfl)
theorem dX10_isDeed_4 : decode cX10_isDeed 4 = .ok (.aload_n 2, 1) := dk_44 (dk_at dksX10_isDeed_0 4 rfl rfl)
theorem dX10_isDeed_5 : decode cX10_isDeed 5 = .ok (.invokevirtual 24, 3) := dk_182 0 24 (dk_at dksX10_isDeed_0 5 rfl rfl)
theorem dX10_isDeed_8 : decode cX10_isDeed 8 = .ok (.lookupswitch 187 #[(-925138779, 175), (-787751952, 160), (111375, 76), (3417674, 146), (3529652, 132), (3533120, 104), (3559837, 90), (96634189, 118)], 76) := by decide +kernel
theorem dX10_isDeed_84 : decode cX10_isDeed 84 = .ok (.aload_n 2, 1) := dk_44 (dk_at dksX10_isDeed_2 0 rfl rfl)
theorem dX10_isDeed_85 : decode cX10_isDeed 85 = .ok (.ldc 30, 2) := dk_18 30 (dk_at dksX10_isDeed_2 1 rfl rfl)
theorem dX10_isDeed_87 : decode cX10_isDeed 87 = .ok (.invokevirtual 32, 3) := dk_182 0 32 (dk_at dksX10_isDeed_2 3 rfl rfl)
theorem dX10_isDeed_90 : decode cX10_isDeed 90 = .ok (.ifCond .eq 105, 3) := dk_153 0 105 (dk_at dksX10_isDeed_2 6 rfl rfl)
theorem dX10_isDeed_93 : decode cX10_isDeed 93 = .ok (.iconst 0, 1) := dk_3 (dk_at dksX10_isDeed_2 9 rfl rfl)
theorem dX10_isDeed_94 : decode cX10_isDeed 94 = .ok (.istore_n 3, 1) := dk_62 (dk_at dksX10_isDeed_2 10 rfl rfl)
theorem dX10_isDeed_95 : decode cX10_isDeed 95 = .ok (.goto 100, 3) := dk_167 0 100 (dk_at dksX10_isDeed_2 11 rfl rfl)
theorem dX10_isDeed_98 : decode cX10_isDeed 98 = .ok (.aload_n 2, 1) := dk_44 (dk_at dksX10_isDeed_2 14 rfl rfl)
theorem dX10_isDeed_99 : decode cX10_isDeed 99 = .ok (.ldc 36, 2) := dk_18 36 (dk_at dksX10_isDeed_2 15 rfl rfl)
theorem dX10_isDeed_101 : decode cX10_isDeed 101 = .ok (.invokevirtual 32, 3) := dk_182 0 32 (dk_at dksX10_isDeed_2 17 rfl rfl)
theorem dX10_isDeed_104 : decode cX10_isDeed 104 = .ok (.ifCond .eq 91, 3) := dk_153 0 91 (dk_at dksX10_isDeed_2 20 rfl rfl)
theorem dX10_isDeed_107 : decode cX10_isDeed 107 = .ok (.iconst 1, 1) := dk_4 (dk_at dksX10_isDeed_2 23 rfl rfl)
theorem dX10_isDeed_108 : decode cX10_isDeed 108 = .ok (.istore_n 3, 1) := dk_62 (dk_at dksX10_isDeed_3 0 rfl rfl)
theorem dX10_isDeed_109 : decode cX10_isDeed 109 = .ok (.goto 86, 3) := dk_167 0 86 (dk_at dksX10_isDeed_3 1 rfl rfl)
theorem dX10_isDeed_112 : decode cX10_isDeed 112 = .ok (.aload_n 2, 1) := dk_44 (dk_at dksX10_isDeed_3 4 rfl rfl)
theorem dX10_isDeed_113 : decode cX10_isDeed 113 = .ok (.ldc 38, 2) := dk_18 38 (dk_at dksX10_isDeed_3 5 rfl rfl)
theorem dX10_isDeed_115 : decode cX10_isDeed 115 = .ok (.invokevirtual 32, 3) := dk_182 0 32 (dk_at dksX10_isDeed_3 7 rfl rfl)
theorem dX10_isDeed_118 : decode cX10_isDeed 118 = .ok (.ifCond .eq 77, 3) := dk_153 0 77 (dk_at dksX10_isDeed_3 10 rfl rfl)
theorem dX10_isDeed_121 : decode cX10_isDeed 121 = .ok (.iconst 2, 1) := dk_5 (dk_at dksX10_isDeed_3 13 rfl rfl)
theorem dX10_isDeed_122 : decode cX10_isDeed 122 = .ok (.istore_n 3, 1) := dk_62 (dk_at dksX10_isDeed_3 14 rfl rfl)
theorem dX10_isDeed_123 : decode cX10_isDeed 123 = .ok (.goto 72, 3) := dk_167 0 72 (dk_at dksX10_isDeed_3 15 rfl rfl)
theorem dX10_isDeed_126 : decode cX10_isDeed 126 = .ok (.aload_n 2, 1) := dk_44 (dk_at dksX10_isDeed_3 18 rfl rfl)
theorem dX10_isDeed_127 : decode cX10_isDeed 127 = .ok (.ldc 40, 2) := dk_18 40 (dk_at dksX10_isDeed_3 19 rfl rfl)
theorem dX10_isDeed_129 : decode cX10_isDeed 129 = .ok (.invokevirtual 32, 3) := dk_182 0 32 (dk_at dksX10_isDeed_3 21 rfl rfl)
theorem dX10_isDeed_132 : decode cX10_isDeed 132 = .ok (.ifCond .eq 63, 3) := dk_153 0 63 (dk_at dksX10_isDeed_4 0 rfl rfl)
theorem dX10_isDeed_135 : decode cX10_isDeed 135 = .ok (.iconst 3, 1) := dk_6 (dk_at dksX10_isDeed_4 3 rfl rfl)
theorem dX10_isDeed_136 : decode cX10_isDeed 136 = .ok (.istore_n 3, 1) := dk_62 (dk_at dksX10_isDeed_4 4 rfl rfl)
theorem dX10_isDeed_137 : decode cX10_isDeed 137 = .ok (.goto 58, 3) := dk_167 0 58 (dk_at dksX10_isDeed_4 5 rfl rfl)
theorem dX10_isDeed_140 : decode cX10_isDeed 140 = .ok (.aload_n 2, 1) := dk_44 (dk_at dksX10_isDeed_4 8 rfl rfl)
theorem dX10_isDeed_141 : decode cX10_isDeed 141 = .ok (.ldc 42, 2) := dk_18 42 (dk_at dksX10_isDeed_4 9 rfl rfl)
theorem dX10_isDeed_143 : decode cX10_isDeed 143 = .ok (.invokevirtual 32, 3) := dk_182 0 32 (dk_at dksX10_isDeed_4 11 rfl rfl)
theorem dX10_isDeed_146 : decode cX10_isDeed 146 = .ok (.ifCond .eq 49, 3) := dk_153 0 49 (dk_at dksX10_isDeed_4 14 rfl rfl)
theorem dX10_isDeed_149 : decode cX10_isDeed 149 = .ok (.iconst 4, 1) := dk_7 (dk_at dksX10_isDeed_4 17 rfl rfl)
theorem dX10_isDeed_150 : decode cX10_isDeed 150 = .ok (.istore_n 3, 1) := dk_62 (dk_at dksX10_isDeed_4 18 rfl rfl)
theorem dX10_isDeed_151 : decode cX10_isDeed 151 = .ok (.goto 44, 3) := dk_167 0 44 (dk_at dksX10_isDeed_4 19 rfl rfl)
theorem dX10_isDeed_154 : decode cX10_isDeed 154 = .ok (.aload_n 2, 1) := dk_44 (dk_at dksX10_isDeed_4 22 rfl rfl)
theorem dX10_isDeed_155 : decode cX10_isDeed 155 = .ok (.ldc 44, 2) := dk_18 44 (dk_at dksX10_isDeed_5 0 rfl rfl)
theorem dX10_isDeed_157 : decode cX10_isDeed 157 = .ok (.invokevirtual 32, 3) := dk_182 0 32 (dk_at dksX10_isDeed_5 2 rfl rfl)
theorem dX10_isDeed_160 : decode cX10_isDeed 160 = .ok (.ifCond .eq 35, 3) := dk_153 0 35 (dk_at dksX10_isDeed_5 5 rfl rfl)
theorem dX10_isDeed_163 : decode cX10_isDeed 163 = .ok (.iconst 5, 1) := dk_8 (dk_at dksX10_isDeed_5 8 rfl rfl)
theorem dX10_isDeed_164 : decode cX10_isDeed 164 = .ok (.istore_n 3, 1) := dk_62 (dk_at dksX10_isDeed_5 9 rfl rfl)
theorem dX10_isDeed_165 : decode cX10_isDeed 165 = .ok (.goto 30, 3) := dk_167 0 30 (dk_at dksX10_isDeed_5 10 rfl rfl)
theorem dX10_isDeed_168 : decode cX10_isDeed 168 = .ok (.aload_n 2, 1) := dk_44 (dk_at dksX10_isDeed_5 13 rfl rfl)
theorem dX10_isDeed_169 : decode cX10_isDeed 169 = .ok (.ldc 46, 2) := dk_18 46 (dk_at dksX10_isDeed_5 14 rfl rfl)
theorem dX10_isDeed_171 : decode cX10_isDeed 171 = .ok (.invokevirtual 32, 3) := dk_182 0 32 (dk_at dksX10_isDeed_5 16 rfl rfl)
theorem dX10_isDeed_174 : decode cX10_isDeed 174 = .ok (.ifCond .eq 21, 3) := dk_153 0 21 (dk_at dksX10_isDeed_5 19 rfl rfl)
theorem dX10_isDeed_177 : decode cX10_isDeed 177 = .ok (.bipush 6, 2) := dk_16 6 (dk_at dksX10_isDeed_5 22 rfl rfl)
theorem dX10_isDeed_179 : decode cX10_isDeed 179 = .ok (.istore_n 3, 1) := dk_62 (dk_at dksX10_isDeed_6 0 rfl rfl)
theorem dX10_isDeed_180 : decode cX10_isDeed 180 = .ok (.goto 15, 3) := dk_167 0 15 (dk_at dksX10_isDeed_6 1 rfl rfl)
theorem dX10_isDeed_183 : decode cX10_isDeed 183 = .ok (.aload_n 2, 1) := dk_44 (dk_at dksX10_isDeed_6 4 rfl rfl)
theorem dX10_isDeed_184 : decode cX10_isDeed 184 = .ok (.ldc 48, 2) := dk_18 48 (dk_at dksX10_isDeed_6 5 rfl rfl)
theorem dX10_isDeed_186 : decode cX10_isDeed 186 = .ok (.invokevirtual 32, 3) := dk_182 0 32 (dk_at dksX10_isDeed_6 7 rfl rfl)
theorem dX10_isDeed_189 : decode cX10_isDeed 189 = .ok (.ifCond .eq 6, 3) := dk_153 0 6 (dk_at dksX10_isDeed_6 10 rfl rfl)
theorem dX10_isDeed_192 : decode cX10_isDeed 192 = .ok (.bipush 7, 2) := dk_16 7 (dk_at dksX10_isDeed_6 13 rfl rfl)
theorem dX10_isDeed_194 : decode cX10_isDeed 194 = .ok (.istore_n 3, 1) := dk_62 (dk_at dksX10_isDeed_6 15 rfl rfl)
theorem dX10_isDeed_195 : decode cX10_isDeed 195 = .ok (.iload_n 3, 1) := dk_29 (dk_at dksX10_isDeed_6 16 rfl rfl)
theorem dX10_isDeed_196 : decode cX10_isDeed 196 = .ok (.tableswitch 52 0 7 #[48, 48, 48, 48, 48, 48, 48, 48], 48) := by decide +kernel
theorem dX10_isDeed_244 : decode cX10_isDeed 244 = .ok (.iconst 1, 1) := dk_4 (dk_at dksX10_isDeed_8 0 rfl rfl)
theorem dX10_isDeed_245 : decode cX10_isDeed 245 = .ok (.goto 4, 3) := dk_167 0 4 (dk_at dksX10_isDeed_8 1 rfl rfl)
theorem dX10_isDeed_248 : decode cX10_isDeed 248 = .ok (.iconst 0, 1) := dk_3 (dk_at dksX10_isDeed_8 4 rfl rfl)
theorem dX10_isDeed_249 : decode cX10_isDeed 249 = .ok (.ireturn, 1) := dk_172 (dk_at dksX10_isDeed_8 5 rfl rfl)
abbrev cX10_deed : ByteArray := prog_13_method_6_code
def yX10_deed : MethodName := ⟨RX10, "deed", "(Ljava/lang/String;)LSortingLoop$Deed;"⟩
def dkwX10_deed_14 : List UInt8 := [4, 16, 9, 182, 0, 64, 79, 183, 0, 78, 176]
abbrev dktX10_deed_14 : List UInt8 := dkwX10_deed_14 ++ []
def dkwX10_deed_13 : List UInt8 := [167, 0, 34, 42, 182, 0, 95, 167, 0, 27, 187, 0, 76, 89, 5, 188, 10, 89, 3, 2, 79, 89, 4, 42]
abbrev dktX10_deed_13 : List UInt8 := dkwX10_deed_13 ++ dktX10_deed_14
def dkwX10_deed_12 : List UInt8 := [167, 0, 58, 187, 0, 92, 89, 5, 188, 10, 89, 3, 42, 182, 0, 68, 79, 89, 4, 4, 79, 183, 0, 94]
abbrev dktX10_deed_12 : List UInt8 := dkwX10_deed_12 ++ dktX10_deed_13
def dkwX10_deed_11 : List UInt8 := [167, 0, 82, 187, 0, 92, 89, 5, 188, 10, 89, 3, 42, 182, 0, 68, 79, 89, 4, 3, 79, 183, 0, 94]
abbrev dktX10_deed_11 : List UInt8 := dkwX10_deed_11 ++ dktX10_deed_12
def dkwX10_deed_10 : List UInt8 := [183, 0, 88, 167, 0, 102, 187, 0, 89, 89, 4, 188, 10, 89, 3, 42, 182, 0, 68, 79, 183, 0, 91]
abbrev dktX10_deed_10 : List UInt8 := dkwX10_deed_10 ++ dktX10_deed_11
def dkwX10_deed_9 : List UInt8 := [79, 183, 0, 85, 167, 0, 125, 187, 0, 86, 89, 4, 188, 10, 89, 3, 42, 3, 16, 39, 182, 0, 64, 79]
abbrev dktX10_deed_9 : List UInt8 := dkwX10_deed_9 ++ dktX10_deed_10
def dkwX10_deed_8 : List UInt8 := [42, 182, 0, 79, 167, 0, 149, 187, 0, 83, 89, 4, 188, 10, 89, 3, 42, 4, 17, 1, 244, 182, 0, 64]
abbrev dktX10_deed_8 : List UInt8 := dkwX10_deed_8 ++ dktX10_deed_9
def dkwX10_deed_7 : List UInt8 := [170, 0, 0, 0, 0, 0, 172, 0, 0, 0, 0, 0, 0, 0, 6, 0, 0, 0, 43, 0, 0, 0, 50, 0, 0, 0, 74, 0, 0, 0, 97, 0, 0, 0, 117, 0, 0, 0, 141, 0, 0, 0, 165]
abbrev dktX10_deed_7 : List UInt8 := dkwX10_deed_7 ++ dktX10_deed_8
def dkwX10_deed_6 : List UInt8 := [62, 29]
abbrev dktX10_deed_6 : List UInt8 := dkwX10_deed_6 ++ dktX10_deed_7
def dkwX10_deed_5 : List UInt8 := [18, 44, 182, 0, 32, 153, 0, 20, 8, 62, 167, 0, 15, 44, 18, 46, 182, 0, 32, 153, 0, 6, 16, 6]
abbrev dktX10_deed_5 : List UInt8 := dkwX10_deed_5 ++ dktX10_deed_6
def dkwX10_deed_4 : List UInt8 := [153, 0, 48, 6, 62, 167, 0, 43, 44, 18, 42, 182, 0, 32, 153, 0, 34, 7, 62, 167, 0, 29, 44]
abbrev dktX10_deed_4 : List UInt8 := dkwX10_deed_4 ++ dktX10_deed_5
def dkwX10_deed_3 : List UInt8 := [62, 167, 0, 71, 44, 18, 38, 182, 0, 32, 153, 0, 62, 5, 62, 167, 0, 57, 44, 18, 40, 182, 0, 32]
abbrev dktX10_deed_3 : List UInt8 := dkwX10_deed_3 ++ dktX10_deed_4
def dkwX10_deed_2 : List UInt8 := [44, 18, 30, 182, 0, 32, 153, 0, 90, 3, 62, 167, 0, 85, 44, 18, 36, 182, 0, 32, 153, 0, 76, 4]
abbrev dktX10_deed_2 : List UInt8 := dkwX10_deed_2 ++ dktX10_deed_3
def dkwX10_deed_1 : List UInt8 := [171, 0, 0, 0, 0, 0, 0, 164, 0, 0, 0, 7, 209, 11, 219, 240, 0, 0, 0, 152, 0, 1, 179, 15, 0, 0, 0, 68, 0, 52, 38, 74, 0, 0, 0, 138, 0, 53, 219, 180, 0, 0, 0, 124, 0, 53, 233, 64, 0, 0, 0, 96, 0, 54, 81, 157, 0, 0, 0, 82, 5, 194, 133, 77, 0, 0, 0, 110]
abbrev dktX10_deed_1 : List UInt8 := dkwX10_deed_1 ++ dktX10_deed_2
def dkwX10_deed_0 : List UInt8 := [43, 77, 2, 62, 44, 182, 0, 24]
abbrev dktX10_deed_0 : List UInt8 := dkwX10_deed_0 ++ dktX10_deed_1
theorem dksX10_deed_0 : cX10_deed.data.toList.drop 0 = dktX10_deed_0 := by decide +kernel
theorem dksX10_deed_1 : cX10_deed.data.toList.drop 8 = dktX10_deed_1 := dk_seg dksX10_deed_0 8 rfl rfl
theorem dksX10_deed_2 : cX10_deed.data.toList.drop 76 = dktX10_deed_2 := dk_seg dksX10_deed_1 68 rfl rfl
theorem dksX10_deed_3 : cX10_deed.data.toList.drop 100 = dktX10_deed_3 := dk_seg dksX10_deed_2 24 rfl rfl
theorem dksX10_deed_4 : cX10_deed.data.toList.drop 124 = dktX10_deed_4 := dk_seg dksX10_deed_3 24 rfl rfl
theorem dksX10_deed_5 : cX10_deed.data.toList.drop 147 = dktX10_deed_5 := dk_seg dksX10_deed_4 23 rfl rfl
theorem dksX10_deed_6 : cX10_deed.data.toList.drop 171 = dktX10_deed_6 := dk_seg dksX10_deed_5 24 rfl rfl
theorem dksX10_deed_7 : cX10_deed.data.toList.drop 173 = dktX10_deed_7 := dk_seg dksX10_deed_6 2 rfl rfl
theorem dksX10_deed_8 : cX10_deed.data.toList.drop 216 = dktX10_deed_8 := dk_seg dksX10_deed_7 43 rfl rfl
theorem dksX10_deed_9 : cX10_deed.data.toList.drop 240 = dktX10_deed_9 := dk_seg dksX10_deed_8 24 rfl rfl
theorem dksX10_deed_10 : cX10_deed.data.toList.drop 264 = dktX10_deed_10 := dk_seg dksX10_deed_9 24 rfl rfl
theorem dksX10_deed_11 : cX10_deed.data.toList.drop 287 = dktX10_deed_11 := dk_seg dksX10_deed_10 23 rfl rfl
theorem dksX10_deed_12 : cX10_deed.data.toList.drop 311 = dktX10_deed_12 := dk_seg dksX10_deed_11 24 rfl rfl
theorem dksX10_deed_13 : cX10_deed.data.toList.drop 335 = dktX10_deed_13 := dk_seg dksX10_deed_12 24 rfl rfl
theorem dksX10_deed_14 : cX10_deed.data.toList.drop 359 = dktX10_deed_14 := dk_seg dksX10_deed_13 24 rfl rfl
theorem dX10_deed_0 : decode cX10_deed 0 = .ok (.aload_n 1, 1) := dk_43 (dk_at dksX10_deed_0 0 rfl rfl)
theorem dX10_deed_1 : decode cX10_deed 1 = .ok (.astore_n 2, 1) := dk_77 (dk_at dksX10_deed_0 1 rfl rfl)
theorem dX10_deed_2 : decode cX10_deed 2 = .ok (.iconst (-1), 1) := dk_2 (dk_at dksX10_deed_0 2 rfl rfl)
theorem dX10_deed_3 : decode cX10_deed 3 = .ok (.istore_n 3, 1) := dk_62 (dk_at dksX10_deed_0 3 rfl rfl)
theorem dX10_deed_4 : decode cX10_deed 4 = .ok (.aload_n 2, 1) := dk_44 (dk_at dksX10_deed_0 4 rfl rfl)
theorem dX10_deed_5 : decode cX10_deed 5 = .ok (.invokevirtual 24, 3) := dk_182 0 24 (dk_at dksX10_deed_0 5 rfl rfl)
theorem dX10_deed_8 : decode cX10_deed 8 = .ok (.lookupswitch 164 #[(-787751952, 152), (111375, 68), (3417674, 138), (3529652, 124), (3533120, 96), (3559837, 82), (96634189, 110)], 68) := by decide +kernel
theorem dX10_deed_76 : decode cX10_deed 76 = .ok (.aload_n 2, 1) := dk_44 (dk_at dksX10_deed_2 0 rfl rfl)
theorem dX10_deed_77 : decode cX10_deed 77 = .ok (.ldc 30, 2) := dk_18 30 (dk_at dksX10_deed_2 1 rfl rfl)
theorem dX10_deed_79 : decode cX10_deed 79 = .ok (.invokevirtual 32, 3) := dk_182 0 32 (dk_at dksX10_deed_2 3 rfl rfl)
theorem dX10_deed_82 : decode cX10_deed 82 = .ok (.ifCond .eq 90, 3) := dk_153 0 90 (dk_at dksX10_deed_2 6 rfl rfl)
theorem dX10_deed_85 : decode cX10_deed 85 = .ok (.iconst 0, 1) := dk_3 (dk_at dksX10_deed_2 9 rfl rfl)
theorem dX10_deed_86 : decode cX10_deed 86 = .ok (.istore_n 3, 1) := dk_62 (dk_at dksX10_deed_2 10 rfl rfl)
theorem dX10_deed_87 : decode cX10_deed 87 = .ok (.goto 85, 3) := dk_167 0 85 (dk_at dksX10_deed_2 11 rfl rfl)
theorem dX10_deed_90 : decode cX10_deed 90 = .ok (.aload_n 2, 1) := dk_44 (dk_at dksX10_deed_2 14 rfl rfl)
theorem dX10_deed_91 : decode cX10_deed 91 = .ok (.ldc 36, 2) := dk_18 36 (dk_at dksX10_deed_2 15 rfl rfl)
theorem dX10_deed_93 : decode cX10_deed 93 = .ok (.invokevirtual 32, 3) := dk_182 0 32 (dk_at dksX10_deed_2 17 rfl rfl)
theorem dX10_deed_96 : decode cX10_deed 96 = .ok (.ifCond .eq 76, 3) := dk_153 0 76 (dk_at dksX10_deed_2 20 rfl rfl)
theorem dX10_deed_99 : decode cX10_deed 99 = .ok (.iconst 1, 1) := dk_4 (dk_at dksX10_deed_2 23 rfl rfl)
theorem dX10_deed_100 : decode cX10_deed 100 = .ok (.istore_n 3, 1) := dk_62 (dk_at dksX10_deed_3 0 rfl rfl)
theorem dX10_deed_101 : decode cX10_deed 101 = .ok (.goto 71, 3) := dk_167 0 71 (dk_at dksX10_deed_3 1 rfl rfl)
theorem dX10_deed_104 : decode cX10_deed 104 = .ok (.aload_n 2, 1) := dk_44 (dk_at dksX10_deed_3 4 rfl rfl)
theorem dX10_deed_105 : decode cX10_deed 105 = .ok (.ldc 38, 2) := dk_18 38 (dk_at dksX10_deed_3 5 rfl rfl)
theorem dX10_deed_107 : decode cX10_deed 107 = .ok (.invokevirtual 32, 3) := dk_182 0 32 (dk_at dksX10_deed_3 7 rfl rfl)
theorem dX10_deed_110 : decode cX10_deed 110 = .ok (.ifCond .eq 62, 3) := dk_153 0 62 (dk_at dksX10_deed_3 10 rfl rfl)
theorem dX10_deed_113 : decode cX10_deed 113 = .ok (.iconst 2, 1) := dk_5 (dk_at dksX10_deed_3 13 rfl rfl)
theorem dX10_deed_114 : decode cX10_deed 114 = .ok (.istore_n 3, 1) := dk_62 (dk_at dksX10_deed_3 14 rfl rfl)
theorem dX10_deed_115 : decode cX10_deed 115 = .ok (.goto 57, 3) := dk_167 0 57 (dk_at dksX10_deed_3 15 rfl rfl)
theorem dX10_deed_118 : decode cX10_deed 118 = .ok (.aload_n 2, 1) := dk_44 (dk_at dksX10_deed_3 18 rfl rfl)
theorem dX10_deed_119 : decode cX10_deed 119 = .ok (.ldc 40, 2) := dk_18 40 (dk_at dksX10_deed_3 19 rfl rfl)
theorem dX10_deed_121 : decode cX10_deed 121 = .ok (.invokevirtual 32, 3) := dk_182 0 32 (dk_at dksX10_deed_3 21 rfl rfl)
theorem dX10_deed_124 : decode cX10_deed 124 = .ok (.ifCond .eq 48, 3) := dk_153 0 48 (dk_at dksX10_deed_4 0 rfl rfl)
theorem dX10_deed_127 : decode cX10_deed 127 = .ok (.iconst 3, 1) := dk_6 (dk_at dksX10_deed_4 3 rfl rfl)
theorem dX10_deed_128 : decode cX10_deed 128 = .ok (.istore_n 3, 1) := dk_62 (dk_at dksX10_deed_4 4 rfl rfl)
theorem dX10_deed_129 : decode cX10_deed 129 = .ok (.goto 43, 3) := dk_167 0 43 (dk_at dksX10_deed_4 5 rfl rfl)
theorem dX10_deed_132 : decode cX10_deed 132 = .ok (.aload_n 2, 1) := dk_44 (dk_at dksX10_deed_4 8 rfl rfl)
theorem dX10_deed_133 : decode cX10_deed 133 = .ok (.ldc 42, 2) := dk_18 42 (dk_at dksX10_deed_4 9 rfl rfl)
theorem dX10_deed_135 : decode cX10_deed 135 = .ok (.invokevirtual 32, 3) := dk_182 0 32 (dk_at dksX10_deed_4 11 rfl rfl)
theorem dX10_deed_138 : decode cX10_deed 138 = .ok (.ifCond .eq 34, 3) := dk_153 0 34 (dk_at dksX10_deed_4 14 rfl rfl)
theorem dX10_deed_141 : decode cX10_deed 141 = .ok (.iconst 4, 1) := dk_7 (dk_at dksX10_deed_4 17 rfl rfl)
theorem dX10_deed_142 : decode cX10_deed 142 = .ok (.istore_n 3, 1) := dk_62 (dk_at dksX10_deed_4 18 rfl rfl)
theorem dX10_deed_143 : decode cX10_deed 143 = .ok (.goto 29, 3) := dk_167 0 29 (dk_at dksX10_deed_4 19 rfl rfl)
theorem dX10_deed_146 : decode cX10_deed 146 = .ok (.aload_n 2, 1) := dk_44 (dk_at dksX10_deed_4 22 rfl rfl)
theorem dX10_deed_147 : decode cX10_deed 147 = .ok (.ldc 44, 2) := dk_18 44 (dk_at dksX10_deed_5 0 rfl rfl)
theorem dX10_deed_149 : decode cX10_deed 149 = .ok (.invokevirtual 32, 3) := dk_182 0 32 (dk_at dksX10_deed_5 2 rfl rfl)
theorem dX10_deed_152 : decode cX10_deed 152 = .ok (.ifCond .eq 20, 3) := dk_153 0 20 (dk_at dksX10_deed_5 5 rfl rfl)
theorem dX10_deed_155 : decode cX10_deed 155 = .ok (.iconst 5, 1) := dk_8 (dk_at dksX10_deed_5 8 rfl rfl)
theorem dX10_deed_156 : decode cX10_deed 156 = .ok (.istore_n 3, 1) := dk_62 (dk_at dksX10_deed_5 9 rfl rfl)
theorem dX10_deed_157 : decode cX10_deed 157 = .ok (.goto 15, 3) := dk_167 0 15 (dk_at dksX10_deed_5 10 rfl rfl)
theorem dX10_deed_160 : decode cX10_deed 160 = .ok (.aload_n 2, 1) := dk_44 (dk_at dksX10_deed_5 13 rfl rfl)
theorem dX10_deed_161 : decode cX10_deed 161 = .ok (.ldc 46, 2) := dk_18 46 (dk_at dksX10_deed_5 14 rfl rfl)
theorem dX10_deed_163 : decode cX10_deed 163 = .ok (.invokevirtual 32, 3) := dk_182 0 32 (dk_at dksX10_deed_5 16 rfl rfl)
theorem dX10_deed_166 : decode cX10_deed 166 = .ok (.ifCond .eq 6, 3) := dk_153 0 6 (dk_at dksX10_deed_5 19 rfl rfl)
theorem dX10_deed_169 : decode cX10_deed 169 = .ok (.bipush 6, 2) := dk_16 6 (dk_at dksX10_deed_5 22 rfl rfl)
theorem dX10_deed_171 : decode cX10_deed 171 = .ok (.istore_n 3, 1) := dk_62 (dk_at dksX10_deed_6 0 rfl rfl)
theorem dX10_deed_172 : decode cX10_deed 172 = .ok (.iload_n 3, 1) := dk_29 (dk_at dksX10_deed_6 1 rfl rfl)
theorem dX10_deed_173 : decode cX10_deed 173 = .ok (.tableswitch 172 0 6 #[43, 50, 74, 97, 117, 141, 165], 43) := by decide +kernel
theorem dX10_deed_216 : decode cX10_deed 216 = .ok (.aload_n 0, 1) := dk_42 (dk_at dksX10_deed_8 0 rfl rfl)
theorem dX10_deed_217 : decode cX10_deed 217 = .ok (.invokevirtual 79, 3) := dk_182 0 79 (dk_at dksX10_deed_8 1 rfl rfl)
theorem dX10_deed_220 : decode cX10_deed 220 = .ok (.goto 149, 3) := dk_167 0 149 (dk_at dksX10_deed_8 4 rfl rfl)
theorem dX10_deed_223 : decode cX10_deed 223 = .ok (.new 83, 3) := dk_187 0 83 (dk_at dksX10_deed_8 7 rfl rfl)
theorem dX10_deed_226 : decode cX10_deed 226 = .ok (.dup, 1) := dk_89 (dk_at dksX10_deed_8 10 rfl rfl)
theorem dX10_deed_227 : decode cX10_deed 227 = .ok (.iconst 1, 1) := dk_4 (dk_at dksX10_deed_8 11 rfl rfl)
theorem dX10_deed_228 : decode cX10_deed 228 = .ok (.newarray .int, 2) := dk_188_10 (dk_at dksX10_deed_8 12 rfl rfl)
theorem dX10_deed_230 : decode cX10_deed 230 = .ok (.dup, 1) := dk_89 (dk_at dksX10_deed_8 14 rfl rfl)
theorem dX10_deed_231 : decode cX10_deed 231 = .ok (.iconst 0, 1) := dk_3 (dk_at dksX10_deed_8 15 rfl rfl)
theorem dX10_deed_232 : decode cX10_deed 232 = .ok (.aload_n 0, 1) := dk_42 (dk_at dksX10_deed_8 16 rfl rfl)
theorem dX10_deed_233 : decode cX10_deed 233 = .ok (.iconst 1, 1) := dk_4 (dk_at dksX10_deed_8 17 rfl rfl)
theorem dX10_deed_234 : decode cX10_deed 234 = .ok (.sipush 500, 3) := dk_17 1 244 (dk_at dksX10_deed_8 18 rfl rfl)
theorem dX10_deed_237 : decode cX10_deed 237 = .ok (.invokevirtual 64, 3) := dk_182 0 64 (dk_at dksX10_deed_8 21 rfl rfl)
theorem dX10_deed_240 : decode cX10_deed 240 = .ok (.iastore, 1) := dk_79 (dk_at dksX10_deed_9 0 rfl rfl)
theorem dX10_deed_241 : decode cX10_deed 241 = .ok (.invokespecial 85, 3) := dk_183 0 85 (dk_at dksX10_deed_9 1 rfl rfl)
theorem dX10_deed_244 : decode cX10_deed 244 = .ok (.goto 125, 3) := dk_167 0 125 (dk_at dksX10_deed_9 4 rfl rfl)
theorem dX10_deed_247 : decode cX10_deed 247 = .ok (.new 86, 3) := dk_187 0 86 (dk_at dksX10_deed_9 7 rfl rfl)
theorem dX10_deed_250 : decode cX10_deed 250 = .ok (.dup, 1) := dk_89 (dk_at dksX10_deed_9 10 rfl rfl)
theorem dX10_deed_251 : decode cX10_deed 251 = .ok (.iconst 1, 1) := dk_4 (dk_at dksX10_deed_9 11 rfl rfl)
theorem dX10_deed_252 : decode cX10_deed 252 = .ok (.newarray .int, 2) := dk_188_10 (dk_at dksX10_deed_9 12 rfl rfl)
theorem dX10_deed_254 : decode cX10_deed 254 = .ok (.dup, 1) := dk_89 (dk_at dksX10_deed_9 14 rfl rfl)
theorem dX10_deed_255 : decode cX10_deed 255 = .ok (.iconst 0, 1) := dk_3 (dk_at dksX10_deed_9 15 rfl rfl)
theorem dX10_deed_256 : decode cX10_deed 256 = .ok (.aload_n 0, 1) := dk_42 (dk_at dksX10_deed_9 16 rfl rfl)
theorem dX10_deed_257 : decode cX10_deed 257 = .ok (.iconst 0, 1) := dk_3 (dk_at dksX10_deed_9 17 rfl rfl)
theorem dX10_deed_258 : decode cX10_deed 258 = .ok (.bipush 39, 2) := dk_16 39 (dk_at dksX10_deed_9 18 rfl rfl)
theorem dX10_deed_260 : decode cX10_deed 260 = .ok (.invokevirtual 64, 3) := dk_182 0 64 (dk_at dksX10_deed_9 20 rfl rfl)
theorem dX10_deed_263 : decode cX10_deed 263 = .ok (.iastore, 1) := dk_79 (dk_at dksX10_deed_9 23 rfl rfl)
theorem dX10_deed_264 : decode cX10_deed 264 = .ok (.invokespecial 88, 3) := dk_183 0 88 (dk_at dksX10_deed_10 0 rfl rfl)
theorem dX10_deed_267 : decode cX10_deed 267 = .ok (.goto 102, 3) := dk_167 0 102 (dk_at dksX10_deed_10 3 rfl rfl)
theorem dX10_deed_270 : decode cX10_deed 270 = .ok (.new 89, 3) := dk_187 0 89 (dk_at dksX10_deed_10 6 rfl rfl)
theorem dX10_deed_273 : decode cX10_deed 273 = .ok (.dup, 1) := dk_89 (dk_at dksX10_deed_10 9 rfl rfl)
theorem dX10_deed_274 : decode cX10_deed 274 = .ok (.iconst 1, 1) := dk_4 (dk_at dksX10_deed_10 10 rfl rfl)
theorem dX10_deed_275 : decode cX10_deed 275 = .ok (.newarray .int, 2) := dk_188_10 (dk_at dksX10_deed_10 11 rfl rfl)
theorem dX10_deed_277 : decode cX10_deed 277 = .ok (.dup, 1) := dk_89 (dk_at dksX10_deed_10 13 rfl rfl)
theorem dX10_deed_278 : decode cX10_deed 278 = .ok (.iconst 0, 1) := dk_3 (dk_at dksX10_deed_10 14 rfl rfl)
theorem dX10_deed_279 : decode cX10_deed 279 = .ok (.aload_n 0, 1) := dk_42 (dk_at dksX10_deed_10 15 rfl rfl)
theorem dX10_deed_280 : decode cX10_deed 280 = .ok (.invokevirtual 68, 3) := dk_182 0 68 (dk_at dksX10_deed_10 16 rfl rfl)
theorem dX10_deed_283 : decode cX10_deed 283 = .ok (.iastore, 1) := dk_79 (dk_at dksX10_deed_10 19 rfl rfl)
theorem dX10_deed_284 : decode cX10_deed 284 = .ok (.invokespecial 91, 3) := dk_183 0 91 (dk_at dksX10_deed_10 20 rfl rfl)
theorem dX10_deed_287 : decode cX10_deed 287 = .ok (.goto 82, 3) := dk_167 0 82 (dk_at dksX10_deed_11 0 rfl rfl)
theorem dX10_deed_290 : decode cX10_deed 290 = .ok (.new 92, 3) := dk_187 0 92 (dk_at dksX10_deed_11 3 rfl rfl)
theorem dX10_deed_293 : decode cX10_deed 293 = .ok (.dup, 1) := dk_89 (dk_at dksX10_deed_11 6 rfl rfl)
theorem dX10_deed_294 : decode cX10_deed 294 = .ok (.iconst 2, 1) := dk_5 (dk_at dksX10_deed_11 7 rfl rfl)
theorem dX10_deed_295 : decode cX10_deed 295 = .ok (.newarray .int, 2) := dk_188_10 (dk_at dksX10_deed_11 8 rfl rfl)
theorem dX10_deed_297 : decode cX10_deed 297 = .ok (.dup, 1) := dk_89 (dk_at dksX10_deed_11 10 rfl rfl)
theorem dX10_deed_298 : decode cX10_deed 298 = .ok (.iconst 0, 1) := dk_3 (dk_at dksX10_deed_11 11 rfl rfl)
theorem dX10_deed_299 : decode cX10_deed 299 = .ok (.aload_n 0, 1) := dk_42 (dk_at dksX10_deed_11 12 rfl rfl)
theorem dX10_deed_300 : decode cX10_deed 300 = .ok (.invokevirtual 68, 3) := dk_182 0 68 (dk_at dksX10_deed_11 13 rfl rfl)
theorem dX10_deed_303 : decode cX10_deed 303 = .ok (.iastore, 1) := dk_79 (dk_at dksX10_deed_11 16 rfl rfl)
theorem dX10_deed_304 : decode cX10_deed 304 = .ok (.dup, 1) := dk_89 (dk_at dksX10_deed_11 17 rfl rfl)
theorem dX10_deed_305 : decode cX10_deed 305 = .ok (.iconst 1, 1) := dk_4 (dk_at dksX10_deed_11 18 rfl rfl)
theorem dX10_deed_306 : decode cX10_deed 306 = .ok (.iconst 0, 1) := dk_3 (dk_at dksX10_deed_11 19 rfl rfl)
theorem dX10_deed_307 : decode cX10_deed 307 = .ok (.iastore, 1) := dk_79 (dk_at dksX10_deed_11 20 rfl rfl)
theorem dX10_deed_308 : decode cX10_deed 308 = .ok (.invokespecial 94, 3) := dk_183 0 94 (dk_at dksX10_deed_11 21 rfl rfl)
theorem dX10_deed_311 : decode cX10_deed 311 = .ok (.goto 58, 3) := dk_167 0 58 (dk_at dksX10_deed_12 0 rfl rfl)
theorem dX10_deed_314 : decode cX10_deed 314 = .ok (.new 92, 3) := dk_187 0 92 (dk_at dksX10_deed_12 3 rfl rfl)
theorem dX10_deed_317 : decode cX10_deed 317 = .ok (.dup, 1) := dk_89 (dk_at dksX10_deed_12 6 rfl rfl)
theorem dX10_deed_318 : decode cX10_deed 318 = .ok (.iconst 2, 1) := dk_5 (dk_at dksX10_deed_12 7 rfl rfl)
theorem dX10_deed_319 : decode cX10_deed 319 = .ok (.newarray .int, 2) := dk_188_10 (dk_at dksX10_deed_12 8 rfl rfl)
theorem dX10_deed_321 : decode cX10_deed 321 = .ok (.dup, 1) := dk_89 (dk_at dksX10_deed_12 10 rfl rfl)
theorem dX10_deed_322 : decode cX10_deed 322 = .ok (.iconst 0, 1) := dk_3 (dk_at dksX10_deed_12 11 rfl rfl)
theorem dX10_deed_323 : decode cX10_deed 323 = .ok (.aload_n 0, 1) := dk_42 (dk_at dksX10_deed_12 12 rfl rfl)
theorem dX10_deed_324 : decode cX10_deed 324 = .ok (.invokevirtual 68, 3) := dk_182 0 68 (dk_at dksX10_deed_12 13 rfl rfl)
theorem dX10_deed_327 : decode cX10_deed 327 = .ok (.iastore, 1) := dk_79 (dk_at dksX10_deed_12 16 rfl rfl)
theorem dX10_deed_328 : decode cX10_deed 328 = .ok (.dup, 1) := dk_89 (dk_at dksX10_deed_12 17 rfl rfl)
theorem dX10_deed_329 : decode cX10_deed 329 = .ok (.iconst 1, 1) := dk_4 (dk_at dksX10_deed_12 18 rfl rfl)
theorem dX10_deed_330 : decode cX10_deed 330 = .ok (.iconst 1, 1) := dk_4 (dk_at dksX10_deed_12 19 rfl rfl)
theorem dX10_deed_331 : decode cX10_deed 331 = .ok (.iastore, 1) := dk_79 (dk_at dksX10_deed_12 20 rfl rfl)
theorem dX10_deed_332 : decode cX10_deed 332 = .ok (.invokespecial 94, 3) := dk_183 0 94 (dk_at dksX10_deed_12 21 rfl rfl)
theorem dX10_deed_335 : decode cX10_deed 335 = .ok (.goto 34, 3) := dk_167 0 34 (dk_at dksX10_deed_13 0 rfl rfl)
theorem dX10_deed_338 : decode cX10_deed 338 = .ok (.aload_n 0, 1) := dk_42 (dk_at dksX10_deed_13 3 rfl rfl)
theorem dX10_deed_339 : decode cX10_deed 339 = .ok (.invokevirtual 95, 3) := dk_182 0 95 (dk_at dksX10_deed_13 4 rfl rfl)
theorem dX10_deed_342 : decode cX10_deed 342 = .ok (.goto 27, 3) := dk_167 0 27 (dk_at dksX10_deed_13 7 rfl rfl)
theorem dX10_deed_345 : decode cX10_deed 345 = .ok (.new 76, 3) := dk_187 0 76 (dk_at dksX10_deed_13 10 rfl rfl)
theorem dX10_deed_348 : decode cX10_deed 348 = .ok (.dup, 1) := dk_89 (dk_at dksX10_deed_13 13 rfl rfl)
theorem dX10_deed_349 : decode cX10_deed 349 = .ok (.iconst 2, 1) := dk_5 (dk_at dksX10_deed_13 14 rfl rfl)
theorem dX10_deed_350 : decode cX10_deed 350 = .ok (.newarray .int, 2) := dk_188_10 (dk_at dksX10_deed_13 15 rfl rfl)
theorem dX10_deed_352 : decode cX10_deed 352 = .ok (.dup, 1) := dk_89 (dk_at dksX10_deed_13 17 rfl rfl)
theorem dX10_deed_353 : decode cX10_deed 353 = .ok (.iconst 0, 1) := dk_3 (dk_at dksX10_deed_13 18 rfl rfl)
theorem dX10_deed_354 : decode cX10_deed 354 = .ok (.iconst (-1), 1) := dk_2 (dk_at dksX10_deed_13 19 rfl rfl)
theorem dX10_deed_355 : decode cX10_deed 355 = .ok (.iastore, 1) := dk_79 (dk_at dksX10_deed_13 20 rfl rfl)
theorem dX10_deed_356 : decode cX10_deed 356 = .ok (.dup, 1) := dk_89 (dk_at dksX10_deed_13 21 rfl rfl)
theorem dX10_deed_357 : decode cX10_deed 357 = .ok (.iconst 1, 1) := dk_4 (dk_at dksX10_deed_13 22 rfl rfl)
theorem dX10_deed_358 : decode cX10_deed 358 = .ok (.aload_n 0, 1) := dk_42 (dk_at dksX10_deed_13 23 rfl rfl)
theorem dX10_deed_359 : decode cX10_deed 359 = .ok (.iconst 1, 1) := dk_4 (dk_at dksX10_deed_14 0 rfl rfl)
theorem dX10_deed_360 : decode cX10_deed 360 = .ok (.bipush 9, 2) := dk_16 9 (dk_at dksX10_deed_14 1 rfl rfl)
theorem dX10_deed_362 : decode cX10_deed 362 = .ok (.invokevirtual 64, 3) := dk_182 0 64 (dk_at dksX10_deed_14 3 rfl rfl)
theorem dX10_deed_365 : decode cX10_deed 365 = .ok (.iastore, 1) := dk_79 (dk_at dksX10_deed_14 6 rfl rfl)
theorem dX10_deed_366 : decode cX10_deed 366 = .ok (.invokespecial 78, 3) := dk_183 0 78 (dk_at dksX10_deed_14 7 rfl rfl)
theorem dX10_deed_369 : decode cX10_deed 369 = .ok (.areturn, 1) := dk_176 (dk_at dksX10_deed_14 10 rfl rfl)
abbrev cX10_putting : ByteArray := prog_13_method_4_code
def yX10_putting : MethodName := ⟨RX10, "putting", "()LSortingLoop$Deed;"⟩
def dkwX10_putting_1 : List UInt8 := [79, 183, 0, 73, 176]
abbrev dktX10_putting_1 : List UInt8 := dkwX10_putting_1 ++ []
def dkwX10_putting_0 : List UInt8 := [42, 182, 0, 68, 60, 187, 0, 71, 89, 5, 188, 10, 89, 3, 27, 79, 89, 4, 42, 3, 8, 182, 0, 64]
abbrev dktX10_putting_0 : List UInt8 := dkwX10_putting_0 ++ dktX10_putting_1
theorem dksX10_putting_0 : cX10_putting.data.toList.drop 0 = dktX10_putting_0 := by decide +kernel
theorem dksX10_putting_1 : cX10_putting.data.toList.drop 24 = dktX10_putting_1 := dk_seg dksX10_putting_0 24 rfl rfl
theorem dX10_putting_0 : decode cX10_putting 0 = .ok (.aload_n 0, 1) := dk_42 (dk_at dksX10_putting_0 0 rfl rfl)
theorem dX10_putting_1 : decode cX10_putting 1 = .ok (.invokevirtual 68, 3) := dk_182 0 68 (dk_at dksX10_putting_0 1 rfl rfl)
theorem dX10_putting_4 : decode cX10_putting 4 = .ok (.istore_n 1, 1) := dk_60 (dk_at dksX10_putting_0 4 rfl rfl)
theorem dX10_putting_5 : decode cX10_putting 5 = .ok (.new 71, 3) := dk_187 0 71 (dk_at dksX10_putting_0 5 rfl rfl)
theorem dX10_putting_8 : decode cX10_putting 8 = .ok (.dup, 1) := dk_89 (dk_at dksX10_putting_0 8 rfl rfl)
theorem dX10_putting_9 : decode cX10_putting 9 = .ok (.iconst 2, 1) := dk_5 (dk_at dksX10_putting_0 9 rfl rfl)
theorem dX10_putting_10 : decode cX10_putting 10 = .ok (.newarray .int, 2) := dk_188_10 (dk_at dksX10_putting_0 10 rfl rfl)
theorem dX10_putting_12 : decode cX10_putting 12 = .ok (.dup, 1) := dk_89 (dk_at dksX10_putting_0 12 rfl rfl)
theorem dX10_putting_13 : decode cX10_putting 13 = .ok (.iconst 0, 1) := dk_3 (dk_at dksX10_putting_0 13 rfl rfl)
theorem dX10_putting_14 : decode cX10_putting 14 = .ok (.iload_n 1, 1) := dk_27 (dk_at dksX10_putting_0 14 rfl rfl)
theorem dX10_putting_15 : decode cX10_putting 15 = .ok (.iastore, 1) := dk_79 (dk_at dksX10_putting_0 15 rfl rfl)
theorem dX10_putting_16 : decode cX10_putting 16 = .ok (.dup, 1) := dk_89 (dk_at dksX10_putting_0 16 rfl rfl)
theorem dX10_putting_17 : decode cX10_putting 17 = .ok (.iconst 1, 1) := dk_4 (dk_at dksX10_putting_0 17 rfl rfl)
theorem dX10_putting_18 : decode cX10_putting 18 = .ok (.aload_n 0, 1) := dk_42 (dk_at dksX10_putting_0 18 rfl rfl)
theorem dX10_putting_19 : decode cX10_putting 19 = .ok (.iconst 0, 1) := dk_3 (dk_at dksX10_putting_0 19 rfl rfl)
theorem dX10_putting_20 : decode cX10_putting 20 = .ok (.iconst 5, 1) := dk_8 (dk_at dksX10_putting_0 20 rfl rfl)
theorem dX10_putting_21 : decode cX10_putting 21 = .ok (.invokevirtual 64, 3) := dk_182 0 64 (dk_at dksX10_putting_0 21 rfl rfl)
theorem dX10_putting_24 : decode cX10_putting 24 = .ok (.iastore, 1) := dk_79 (dk_at dksX10_putting_1 0 rfl rfl)
theorem dX10_putting_25 : decode cX10_putting 25 = .ok (.invokespecial 73, 3) := dk_183 0 73 (dk_at dksX10_putting_1 1 rfl rfl)
theorem dX10_putting_28 : decode cX10_putting 28 = .ok (.areturn, 1) := dk_176 (dk_at dksX10_putting_1 4 rfl rfl)
abbrev cX10_chute : ByteArray := prog_13_method_3_code
def yX10_chute : MethodName := ⟨RX10, "chute", "()I"⟩
def dkwX10_chute_0 : List UInt8 := [42, 3, 42, 180, 0, 3, 180, 0, 50, 180, 0, 54, 185, 0, 59, 1, 0, 4, 100, 182, 0, 64, 172]
abbrev dktX10_chute_0 : List UInt8 := dkwX10_chute_0 ++ []
theorem dksX10_chute_0 : cX10_chute.data.toList.drop 0 = dktX10_chute_0 := by decide +kernel
theorem dX10_chute_0 : decode cX10_chute 0 = .ok (.aload_n 0, 1) := dk_42 (dk_at dksX10_chute_0 0 rfl rfl)
theorem dX10_chute_1 : decode cX10_chute 1 = .ok (.iconst 0, 1) := dk_3 (dk_at dksX10_chute_0 1 rfl rfl)
theorem dX10_chute_2 : decode cX10_chute 2 = .ok (.aload_n 0, 1) := dk_42 (dk_at dksX10_chute_0 2 rfl rfl)
theorem dX10_chute_3 : decode cX10_chute 3 = .ok (.getfield 3, 3) := dk_180 0 3 (dk_at dksX10_chute_0 3 rfl rfl)
theorem dX10_chute_6 : decode cX10_chute 6 = .ok (.getfield 50, 3) := dk_180 0 50 (dk_at dksX10_chute_0 6 rfl rfl)
theorem dX10_chute_9 : decode cX10_chute 9 = .ok (.getfield 54, 3) := dk_180 0 54 (dk_at dksX10_chute_0 9 rfl rfl)
theorem dX10_chute_12 : decode cX10_chute 12 = .ok (.invokeinterface 59 1, 5) := by decide +kernel
theorem dX10_chute_17 : decode cX10_chute 17 = .ok (.iconst 1, 1) := dk_4 (dk_at dksX10_chute_0 17 rfl rfl)
theorem dX10_chute_18 : decode cX10_chute 18 = .ok (.isub, 1) := dk_100 (dk_at dksX10_chute_0 18 rfl rfl)
theorem dX10_chute_19 : decode cX10_chute 19 = .ok (.invokevirtual 64, 3) := dk_182 0 64 (dk_at dksX10_chute_0 19 rfl rfl)
theorem dX10_chute_22 : decode cX10_chute 22 = .ok (.ireturn, 1) := dk_172 (dk_at dksX10_chute_0 22 rfl rfl)
abbrev cX10_window : ByteArray := prog_13_method_5_code
def yX10_window : MethodName := ⟨RX10, "window", "()LSortingLoop$Deed;"⟩
def dkwX10_window_1 : List UInt8 := [79, 183, 0, 78, 176]
abbrev dktX10_window_1 : List UInt8 := dkwX10_window_1 ++ []
def dkwX10_window_0 : List UInt8 := [42, 182, 0, 68, 60, 187, 0, 76, 89, 5, 188, 10, 89, 3, 27, 79, 89, 4, 42, 3, 6, 182, 0, 64]
abbrev dktX10_window_0 : List UInt8 := dkwX10_window_0 ++ dktX10_window_1
theorem dksX10_window_0 : cX10_window.data.toList.drop 0 = dktX10_window_0 := by decide +kernel
theorem dksX10_window_1 : cX10_window.data.toList.drop 24 = dktX10_window_1 := dk_seg dksX10_window_0 24 rfl rfl
theorem dX10_window_0 : decode cX10_window 0 = .ok (.aload_n 0, 1) := dk_42 (dk_at dksX10_window_0 0 rfl rfl)
theorem dX10_window_1 : decode cX10_window 1 = .ok (.invokevirtual 68, 3) := dk_182 0 68 (dk_at dksX10_window_0 1 rfl rfl)
theorem dX10_window_4 : decode cX10_window 4 = .ok (.istore_n 1, 1) := dk_60 (dk_at dksX10_window_0 4 rfl rfl)
theorem dX10_window_5 : decode cX10_window 5 = .ok (.new 76, 3) := dk_187 0 76 (dk_at dksX10_window_0 5 rfl rfl)
theorem dX10_window_8 : decode cX10_window 8 = .ok (.dup, 1) := dk_89 (dk_at dksX10_window_0 8 rfl rfl)
theorem dX10_window_9 : decode cX10_window 9 = .ok (.iconst 2, 1) := dk_5 (dk_at dksX10_window_0 9 rfl rfl)
theorem dX10_window_10 : decode cX10_window 10 = .ok (.newarray .int, 2) := dk_188_10 (dk_at dksX10_window_0 10 rfl rfl)
theorem dX10_window_12 : decode cX10_window 12 = .ok (.dup, 1) := dk_89 (dk_at dksX10_window_0 12 rfl rfl)
theorem dX10_window_13 : decode cX10_window 13 = .ok (.iconst 0, 1) := dk_3 (dk_at dksX10_window_0 13 rfl rfl)
theorem dX10_window_14 : decode cX10_window 14 = .ok (.iload_n 1, 1) := dk_27 (dk_at dksX10_window_0 14 rfl rfl)
theorem dX10_window_15 : decode cX10_window 15 = .ok (.iastore, 1) := dk_79 (dk_at dksX10_window_0 15 rfl rfl)
theorem dX10_window_16 : decode cX10_window 16 = .ok (.dup, 1) := dk_89 (dk_at dksX10_window_0 16 rfl rfl)
theorem dX10_window_17 : decode cX10_window 17 = .ok (.iconst 1, 1) := dk_4 (dk_at dksX10_window_0 17 rfl rfl)
theorem dX10_window_18 : decode cX10_window 18 = .ok (.aload_n 0, 1) := dk_42 (dk_at dksX10_window_0 18 rfl rfl)
theorem dX10_window_19 : decode cX10_window 19 = .ok (.iconst 0, 1) := dk_3 (dk_at dksX10_window_0 19 rfl rfl)
theorem dX10_window_20 : decode cX10_window 20 = .ok (.iconst 3, 1) := dk_6 (dk_at dksX10_window_0 20 rfl rfl)
theorem dX10_window_21 : decode cX10_window 21 = .ok (.invokevirtual 64, 3) := dk_182 0 64 (dk_at dksX10_window_0 21 rfl rfl)
theorem dX10_window_24 : decode cX10_window 24 = .ok (.iastore, 1) := dk_79 (dk_at dksX10_window_1 0 rfl rfl)
theorem dX10_window_25 : decode cX10_window 25 = .ok (.invokespecial 78, 3) := dk_183 0 78 (dk_at dksX10_window_1 1 rfl rfl)
theorem dX10_window_28 : decode cX10_window 28 = .ok (.areturn, 1) := dk_176 (dk_at dksX10_window_1 4 rfl rfl)
theorem q182 : (Jvm.Cond.initialized "SortingLoop$Script") ∈ lw_all := lw_g (lw_at lw_m1 45 rfl) rfl
theorem q615 : (Jvm.Cond.selects "SortingLoop$Script" ({ cls := "java/lang/Object", name := "getClass", desc := "()Ljava/lang/Class;" } : Jvm.MethodName) ({ cls := "java/lang/Object", name := "getClass", desc := "()Ljava/lang/Class;" } : Jvm.MethodName)) ∈ lw_all := lw_g (lw_at lw_m2 238 rfl) rfl
theorem q693 : (Jvm.Cond.fieldLinkNest "SortingLoop$Script" (54 : Nat) "SortingLoop$Loop" "chutes" "Ljava/util/List;" "SortingLoop") ∈ lw_tbl := lw_at lw_m3 76 rfl
theorem q1328 : (Jvm.Cond.fieldLinkNest "SortingLoop$Script" (50 : Nat) "SortingLoop" "now" "LSortingLoop$Loop;" "SortingLoop") ∈ lw_tbl := lw_at lw_m5 231 rfl
theorem q1390 : (Jvm.Cond.selects "SortingLoop$Script" ({ cls := "SortingLoop$Parser", name := "advance", desc := "()V" } : Jvm.MethodName) ({ cls := "SortingLoop$Parser", name := "advance", desc := "()V" } : Jvm.MethodName)) ∈ lw_all := lw_g (lw_at lw_m6 53 rfl) rfl
theorem q1612 : (Jvm.Cond.selects "SortingLoop$Script" ({ cls := "SortingLoop$Parser", name := "numberHere", desc := "(II)I" } : Jvm.MethodName) ({ cls := "SortingLoop$Parser", name := "numberHere", desc := "(II)I" } : Jvm.MethodName)) ∈ lw_all := lw_g (lw_at lw_m7 35 rfl) rfl
theorem q1761 : (Jvm.Cond.instantiable "SortingLoop$Script" (8 : Nat)) ∈ lw_all := lw_g (lw_at lw_m7 184 rfl) rfl
theorem q1763 : (Jvm.Cond.instanceMethod ({ cls := "SortingLoop$Script", name := "<init>", desc := "(LSortingLoop;)V" } : Jvm.MethodName)) ∈ lw_all := lw_g (lw_at lw_m7 186 rfl) rfl
theorem q1764 : (Jvm.Cond.code ({ cls := "SortingLoop$Script", name := "<init>", desc := "(LSortingLoop;)V" } : Jvm.MethodName) prog_13_method_1_code (2 : Nat) (Option.none : Option Jvm.ClassFile.FieldType)) ∈ lw_all := lw_g (lw_at lw_m7 187 rfl) rfl
theorem q1765 : (Jvm.Cond.methodLink "SortingLoop$Script" (9 : Nat) ({ cls := "SortingLoop$Parser", name := "<init>", desc := "(LSortingLoop;)V" } : Jvm.MethodName)) ∈ lw_all := lw_g (lw_at lw_m7 188 rfl) rfl
theorem q1766 : (Jvm.Cond.classLink "SortingLoop$Script" (15 : Nat) "java/util/ArrayList") ∈ lw_all := lw_g (lw_at lw_m7 189 rfl) rfl
theorem q1767 : (Jvm.Cond.methodLink "SortingLoop$Script" (17 : Nat) ({ cls := "java/util/ArrayList", name := "<init>", desc := "(I)V" } : Jvm.MethodName)) ∈ lw_all := lw_g (lw_at lw_m7 190 rfl) rfl
theorem q1768 : (Jvm.Cond.fieldLink "SortingLoop$Script" (20 : Nat) "SortingLoop$Script" "deeds" "Ljava/util/List;") ∈ lw_all := lw_g (lw_at lw_m7 191 rfl) rfl
theorem q1769 : (Jvm.Cond.fieldLink "SortingLoop$Script" (3 : Nat) "SortingLoop$Script" "this$0" "LSortingLoop;") ∈ lw_all := lw_g (lw_at lw_m7 192 rfl) rfl
theorem q1770 : (Jvm.Cond.laysFinal "SortingLoop$Script" "SortingLoop$Script" "deeds" "Ljava/util/List;") ∈ lw_all := lw_g (lw_at lw_m7 193 rfl) rfl
theorem q1771 : (Jvm.Cond.soleField "SortingLoop$Script" "deeds") ∈ lw_all := lw_g (lw_at lw_m7 194 rfl) rfl
theorem q1772 : (Jvm.Cond.laysFinal "SortingLoop$Script" "SortingLoop$Script" "this$0" "LSortingLoop;") ∈ lw_all := lw_g (lw_at lw_m7 195 rfl) rfl
theorem q1773 : (Jvm.Cond.soleField "SortingLoop$Script" "this$0") ∈ lw_all := lw_g (lw_at lw_m7 196 rfl) rfl
theorem q1774 : (Jvm.Cond.lays "SortingLoop$Script" "SortingLoop$Parser" "start" "I") ∈ lw_all := lw_g (lw_at lw_m7 197 rfl) rfl
theorem q1775 : (Jvm.Cond.lays "SortingLoop$Script" "SortingLoop$Parser" "next" "I") ∈ lw_all := lw_g (lw_at lw_m7 198 rfl) rfl
theorem q1776 : (Jvm.Cond.lays "SortingLoop$Script" "SortingLoop$Parser" "token" "I") ∈ lw_all := lw_g (lw_at lw_m7 199 rfl) rfl
theorem q1777 : (Jvm.Cond.lays "SortingLoop$Script" "SortingLoop$Parser" "value" "I") ∈ lw_all := lw_g (lw_at lw_m7 200 rfl) rfl
theorem q1778 : (Jvm.Cond.lays "SortingLoop$Script" "SortingLoop$Parser" "word" "Ljava/lang/String;") ∈ lw_all := lw_g (lw_at lw_m7 201 rfl) rfl
theorem q1779 : (Jvm.Cond.laysFinal "SortingLoop$Script" "SortingLoop$Parser" "this$0" "LSortingLoop;") ∈ lw_all := lw_g (lw_at lw_m7 202 rfl) rfl
theorem q1780 : (Jvm.Cond.superclass "SortingLoop$Script" "SortingLoop$Parser") ∈ lw_all := lw_g (lw_at lw_m7 203 rfl) rfl
theorem q1782 : (Jvm.Cond.instanceMethod ({ cls := "SortingLoop$Script", name := "read", desc := "()Ljava/util/List;" } : Jvm.MethodName)) ∈ lw_all := lw_g (lw_at lw_m7 205 rfl) rfl
theorem q1783 : (Jvm.Cond.selects "SortingLoop$Script" ({ cls := "SortingLoop$Script", name := "read", desc := "()Ljava/util/List;" } : Jvm.MethodName) ({ cls := "SortingLoop$Script", name := "read", desc := "()Ljava/util/List;" } : Jvm.MethodName)) ∈ lw_all := lw_g (lw_at lw_m7 206 rfl) rfl
theorem q1784 : (Jvm.Cond.code ({ cls := "SortingLoop$Script", name := "read", desc := "()Ljava/util/List;" } : Jvm.MethodName) prog_13_method_7_code (3 : Nat) (Option.some (Jvm.ClassFile.FieldType.object "java/util/List"))) ∈ lw_all := lw_g (lw_at lw_m7 207 rfl) rfl
theorem q1785 : (Jvm.Cond.methodLink "SortingLoop$Script" (97 : Nat) ({ cls := "SortingLoop$Script", name := "isOver", desc := "()Z" } : Jvm.MethodName)) ∈ lw_all := lw_g (lw_at lw_m7 208 rfl) rfl
theorem q1786 : (Jvm.Cond.sameMethod "SortingLoop$Script" "SortingLoop$Parser" "isOver" "()Z") ∈ lw_all := lw_g (lw_at lw_m7 209 rfl) rfl
theorem q1787 : (Jvm.Cond.selects "SortingLoop$Script" ({ cls := "SortingLoop$Script", name := "isOver", desc := "()Z" } : Jvm.MethodName) ({ cls := "SortingLoop$Parser", name := "isOver", desc := "()Z" } : Jvm.MethodName)) ∈ lw_all := lw_g (lw_at lw_m7 210 rfl) rfl
theorem q1788 : (Jvm.Cond.methodLink "SortingLoop$Script" (101 : Nat) ({ cls := "SortingLoop$Script", name := "word", desc := "()Ljava/lang/String;" } : Jvm.MethodName)) ∈ lw_all := lw_g (lw_at lw_m7 211 rfl) rfl
theorem q1789 : (Jvm.Cond.sameMethod "SortingLoop$Script" "SortingLoop$Parser" "word" "()Ljava/lang/String;") ∈ lw_all := lw_g (lw_at lw_m7 212 rfl) rfl
theorem q1790 : (Jvm.Cond.selects "SortingLoop$Script" ({ cls := "SortingLoop$Script", name := "word", desc := "()Ljava/lang/String;" } : Jvm.MethodName) ({ cls := "SortingLoop$Parser", name := "word", desc := "()Ljava/lang/String;" } : Jvm.MethodName)) ∈ lw_all := lw_g (lw_at lw_m7 213 rfl) rfl
theorem q1791 : (Jvm.Cond.methodLink "SortingLoop$Script" (105 : Nat) ({ cls := "SortingLoop$Script", name := "isDeed", desc := "(Ljava/lang/String;)Z" } : Jvm.MethodName)) ∈ lw_all := lw_g (lw_at lw_m7 214 rfl) rfl
theorem q1792 : (Jvm.Cond.privateMethod ({ cls := "SortingLoop$Script", name := "isDeed", desc := "(Ljava/lang/String;)Z" } : Jvm.MethodName)) ∈ lw_tbl := lw_at lw_m7 215 rfl
theorem q1793 : (Jvm.Cond.instanceMethod ({ cls := "SortingLoop$Script", name := "isDeed", desc := "(Ljava/lang/String;)Z" } : Jvm.MethodName)) ∈ lw_all := lw_g (lw_at lw_m7 216 rfl) rfl
theorem q1794 : (Jvm.Cond.code ({ cls := "SortingLoop$Script", name := "isDeed", desc := "(Ljava/lang/String;)Z" } : Jvm.MethodName) prog_13_method_2_code (4 : Nat) (Option.some Jvm.ClassFile.FieldType.boolean)) ∈ lw_all := lw_g (lw_at lw_m7 217 rfl) rfl
theorem q1795 : (Jvm.Cond.methodLink "SortingLoop$Script" (24 : Nat) ({ cls := "java/lang/String", name := "hashCode", desc := "()I" } : Jvm.MethodName)) ∈ lw_all := lw_g (lw_at lw_m7 218 rfl) rfl
theorem q1796 : (Jvm.Cond.stringRef "SortingLoop$Script" (30 : Nat) "put") ∈ lw_tbl := lw_at lw_m7 219 rfl
theorem q1797 : (Jvm.Cond.methodLink "SortingLoop$Script" (32 : Nat) ({ cls := "java/lang/String", name := "equals", desc := "(Ljava/lang/Object;)Z" } : Jvm.MethodName)) ∈ lw_all := lw_g (lw_at lw_m7 220 rfl) rfl
theorem q1798 : (Jvm.Cond.stringRef "SortingLoop$Script" (36 : Nat) "tick") ∈ lw_tbl := lw_at lw_m7 221 rfl
theorem q1799 : (Jvm.Cond.stringRef "SortingLoop$Script" (38 : Nat) "slip") ∈ lw_tbl := lw_at lw_m7 222 rfl
theorem q1800 : (Jvm.Cond.stringRef "SortingLoop$Script" (40 : Nat) "empty") ∈ lw_tbl := lw_at lw_m7 223 rfl
theorem q1801 : (Jvm.Cond.stringRef "SortingLoop$Script" (42 : Nat) "shut") ∈ lw_tbl := lw_at lw_m7 224 rfl
theorem q1802 : (Jvm.Cond.stringRef "SortingLoop$Script" (44 : Nat) "open") ∈ lw_tbl := lw_at lw_m7 225 rfl
theorem q1803 : (Jvm.Cond.stringRef "SortingLoop$Script" (46 : Nat) "window") ∈ lw_tbl := lw_at lw_m7 226 rfl
theorem q1804 : (Jvm.Cond.stringRef "SortingLoop$Script" (48 : Nat) "rounds") ∈ lw_tbl := lw_at lw_m7 227 rfl
theorem q1805 : (Jvm.Cond.methodLink "SortingLoop$Script" (109 : Nat) ({ cls := "SortingLoop$Script", name := "expect", desc := "(ZI)V" } : Jvm.MethodName)) ∈ lw_all := lw_g (lw_at lw_m7 228 rfl) rfl
theorem q1806 : (Jvm.Cond.sameMethod "SortingLoop$Script" "SortingLoop$Parser" "expect" "(ZI)V") ∈ lw_all := lw_g (lw_at lw_m7 229 rfl) rfl
theorem q1807 : (Jvm.Cond.selects "SortingLoop$Script" ({ cls := "SortingLoop$Script", name := "expect", desc := "(ZI)V" } : Jvm.MethodName) ({ cls := "SortingLoop$Parser", name := "expect", desc := "(ZI)V" } : Jvm.MethodName)) ∈ lw_all := lw_g (lw_at lw_m7 230 rfl) rfl
theorem q1808 : (Jvm.Cond.interfaceEntry "SortingLoop$Script" (59 : Nat)) ∈ lw_tbl := lw_at lw_m7 231 rfl
theorem q1809 : (Jvm.Cond.methodLink "SortingLoop$Script" (59 : Nat) ({ cls := "java/util/List", name := "size", desc := "()I" } : Jvm.MethodName)) ∈ lw_all := lw_g (lw_at lw_m7 232 rfl) rfl
theorem q1810 : (Jvm.Cond.methodLink "SortingLoop$Script" (113 : Nat) ({ cls := "SortingLoop$Script", name := "advance", desc := "()V" } : Jvm.MethodName)) ∈ lw_all := lw_g (lw_at lw_m7 233 rfl) rfl
theorem q1811 : (Jvm.Cond.sameMethod "SortingLoop$Script" "SortingLoop$Parser" "advance" "()V") ∈ lw_all := lw_g (lw_at lw_m7 234 rfl) rfl
theorem q1812 : (Jvm.Cond.selects "SortingLoop$Script" ({ cls := "SortingLoop$Script", name := "advance", desc := "()V" } : Jvm.MethodName) ({ cls := "SortingLoop$Parser", name := "advance", desc := "()V" } : Jvm.MethodName)) ∈ lw_all := lw_g (lw_at lw_m7 235 rfl) rfl
theorem q1813 : (Jvm.Cond.methodLink "SortingLoop$Script" (117 : Nat) ({ cls := "SortingLoop$Script", name := "deed", desc := "(Ljava/lang/String;)LSortingLoop$Deed;" } : Jvm.MethodName)) ∈ lw_all := lw_g (lw_at lw_m7 236 rfl) rfl
theorem q1814 : (Jvm.Cond.privateMethod ({ cls := "SortingLoop$Script", name := "deed", desc := "(Ljava/lang/String;)LSortingLoop$Deed;" } : Jvm.MethodName)) ∈ lw_tbl := lw_at lw_m7 237 rfl
theorem q1815 : (Jvm.Cond.instanceMethod ({ cls := "SortingLoop$Script", name := "deed", desc := "(Ljava/lang/String;)LSortingLoop$Deed;" } : Jvm.MethodName)) ∈ lw_all := lw_g (lw_at lw_m7 238 rfl) rfl
theorem q1816 : (Jvm.Cond.code ({ cls := "SortingLoop$Script", name := "deed", desc := "(Ljava/lang/String;)LSortingLoop$Deed;" } : Jvm.MethodName) prog_13_method_6_code (4 : Nat) (Option.some (Jvm.ClassFile.FieldType.object "SortingLoop$Deed"))) ∈ lw_all := lw_g (lw_at lw_m7 239 rfl) rfl
theorem q1817 : (Jvm.Cond.methodLink "SortingLoop$Script" (79 : Nat) ({ cls := "SortingLoop$Script", name := "putting", desc := "()LSortingLoop$Deed;" } : Jvm.MethodName)) ∈ lw_all := lw_g (lw_at lw_m8 0 rfl) rfl
theorem q1818 : (Jvm.Cond.privateMethod ({ cls := "SortingLoop$Script", name := "putting", desc := "()LSortingLoop$Deed;" } : Jvm.MethodName)) ∈ lw_tbl := lw_at lw_m8 1 rfl
theorem q1819 : (Jvm.Cond.instanceMethod ({ cls := "SortingLoop$Script", name := "putting", desc := "()LSortingLoop$Deed;" } : Jvm.MethodName)) ∈ lw_all := lw_g (lw_at lw_m8 2 rfl) rfl
theorem q1820 : (Jvm.Cond.code ({ cls := "SortingLoop$Script", name := "putting", desc := "()LSortingLoop$Deed;" } : Jvm.MethodName) prog_13_method_4_code (2 : Nat) (Option.some (Jvm.ClassFile.FieldType.object "SortingLoop$Deed"))) ∈ lw_all := lw_g (lw_at lw_m8 3 rfl) rfl
theorem q1821 : (Jvm.Cond.methodLink "SortingLoop$Script" (68 : Nat) ({ cls := "SortingLoop$Script", name := "chute", desc := "()I" } : Jvm.MethodName)) ∈ lw_all := lw_g (lw_at lw_m8 4 rfl) rfl
theorem q1822 : (Jvm.Cond.privateMethod ({ cls := "SortingLoop$Script", name := "chute", desc := "()I" } : Jvm.MethodName)) ∈ lw_tbl := lw_at lw_m8 5 rfl
theorem q1823 : (Jvm.Cond.instanceMethod ({ cls := "SortingLoop$Script", name := "chute", desc := "()I" } : Jvm.MethodName)) ∈ lw_all := lw_g (lw_at lw_m8 6 rfl) rfl
theorem q1824 : (Jvm.Cond.code ({ cls := "SortingLoop$Script", name := "chute", desc := "()I" } : Jvm.MethodName) prog_13_method_3_code (1 : Nat) (Option.some Jvm.ClassFile.FieldType.int)) ∈ lw_all := lw_g (lw_at lw_m8 7 rfl) rfl
theorem q1825 : (Jvm.Cond.methodLink "SortingLoop$Script" (64 : Nat) ({ cls := "SortingLoop$Script", name := "number", desc := "(II)I" } : Jvm.MethodName)) ∈ lw_all := lw_g (lw_at lw_m8 8 rfl) rfl
theorem q1826 : (Jvm.Cond.sameMethod "SortingLoop$Script" "SortingLoop$Parser" "number" "(II)I") ∈ lw_all := lw_g (lw_at lw_m8 9 rfl) rfl
theorem q1827 : (Jvm.Cond.selects "SortingLoop$Script" ({ cls := "SortingLoop$Script", name := "number", desc := "(II)I" } : Jvm.MethodName) ({ cls := "SortingLoop$Parser", name := "number", desc := "(II)I" } : Jvm.MethodName)) ∈ lw_all := lw_g (lw_at lw_m8 10 rfl) rfl
theorem q1828 : (Jvm.Cond.classLink "SortingLoop$Script" (71 : Nat) "SortingLoop$Putting") ∈ lw_all := lw_g (lw_at lw_m8 11 rfl) rfl
theorem q1830 : (Jvm.Cond.methodLink "SortingLoop$Script" (73 : Nat) ({ cls := "SortingLoop$Putting", name := "<init>", desc := "([I)V" } : Jvm.MethodName)) ∈ lw_all := lw_g (lw_at lw_m8 13 rfl) rfl
theorem q1844 : (Jvm.Cond.classLink "SortingLoop$Script" (83 : Nat) "SortingLoop$Ticking") ∈ lw_all := lw_g (lw_at lw_m8 27 rfl) rfl
theorem q1846 : (Jvm.Cond.methodLink "SortingLoop$Script" (85 : Nat) ({ cls := "SortingLoop$Ticking", name := "<init>", desc := "([I)V" } : Jvm.MethodName)) ∈ lw_all := lw_g (lw_at lw_m8 29 rfl) rfl
theorem q1853 : (Jvm.Cond.classLink "SortingLoop$Script" (86 : Nat) "SortingLoop$Slipping") ∈ lw_all := lw_g (lw_at lw_m8 36 rfl) rfl
theorem q1855 : (Jvm.Cond.methodLink "SortingLoop$Script" (88 : Nat) ({ cls := "SortingLoop$Slipping", name := "<init>", desc := "([I)V" } : Jvm.MethodName)) ∈ lw_all := lw_g (lw_at lw_m8 38 rfl) rfl
theorem q1862 : (Jvm.Cond.classLink "SortingLoop$Script" (89 : Nat) "SortingLoop$Emptying") ∈ lw_all := lw_g (lw_at lw_m8 45 rfl) rfl
theorem q1864 : (Jvm.Cond.methodLink "SortingLoop$Script" (91 : Nat) ({ cls := "SortingLoop$Emptying", name := "<init>", desc := "([I)V" } : Jvm.MethodName)) ∈ lw_all := lw_g (lw_at lw_m8 47 rfl) rfl
theorem q1871 : (Jvm.Cond.classLink "SortingLoop$Script" (92 : Nat) "SortingLoop$Opening") ∈ lw_all := lw_g (lw_at lw_m8 54 rfl) rfl
theorem q1873 : (Jvm.Cond.methodLink "SortingLoop$Script" (94 : Nat) ({ cls := "SortingLoop$Opening", name := "<init>", desc := "([I)V" } : Jvm.MethodName)) ∈ lw_all := lw_g (lw_at lw_m8 56 rfl) rfl
theorem q1880 : (Jvm.Cond.methodLink "SortingLoop$Script" (95 : Nat) ({ cls := "SortingLoop$Script", name := "window", desc := "()LSortingLoop$Deed;" } : Jvm.MethodName)) ∈ lw_all := lw_g (lw_at lw_m8 63 rfl) rfl
theorem q1881 : (Jvm.Cond.privateMethod ({ cls := "SortingLoop$Script", name := "window", desc := "()LSortingLoop$Deed;" } : Jvm.MethodName)) ∈ lw_tbl := lw_at lw_m8 64 rfl
theorem q1882 : (Jvm.Cond.instanceMethod ({ cls := "SortingLoop$Script", name := "window", desc := "()LSortingLoop$Deed;" } : Jvm.MethodName)) ∈ lw_all := lw_g (lw_at lw_m8 65 rfl) rfl
theorem q1883 : (Jvm.Cond.code ({ cls := "SortingLoop$Script", name := "window", desc := "()LSortingLoop$Deed;" } : Jvm.MethodName) prog_13_method_5_code (2 : Nat) (Option.some (Jvm.ClassFile.FieldType.object "SortingLoop$Deed"))) ∈ lw_all := lw_g (lw_at lw_m8 66 rfl) rfl
theorem q1884 : (Jvm.Cond.classLink "SortingLoop$Script" (76 : Nat) "SortingLoop$Setting") ∈ lw_all := lw_g (lw_at lw_m8 67 rfl) rfl
theorem q1886 : (Jvm.Cond.methodLink "SortingLoop$Script" (78 : Nat) ({ cls := "SortingLoop$Setting", name := "<init>", desc := "([I)V" } : Jvm.MethodName)) ∈ lw_all := lw_g (lw_at lw_m8 69 rfl) rfl
theorem q1893 : (Jvm.Cond.interfaceEntry "SortingLoop$Script" (121 : Nat)) ∈ lw_tbl := lw_at lw_m8 76 rfl
theorem q1894 : (Jvm.Cond.methodLink "SortingLoop$Script" (121 : Nat) ({ cls := "java/util/List", name := "add", desc := "(Ljava/lang/Object;)Z" } : Jvm.MethodName)) ∈ lw_all := lw_g (lw_at lw_m8 77 rfl) rfl
theorem q1895 : (Jvm.Cond.methodLink "SortingLoop$Script" (124 : Nat) ({ cls := "SortingLoop$Script", name := "end", desc := "()V" } : Jvm.MethodName)) ∈ lw_all := lw_g (lw_at lw_m8 78 rfl) rfl
theorem q1896 : (Jvm.Cond.sameMethod "SortingLoop$Script" "SortingLoop$Parser" "end" "()V") ∈ lw_all := lw_g (lw_at lw_m8 79 rfl) rfl
theorem q1897 : (Jvm.Cond.selects "SortingLoop$Script" ({ cls := "SortingLoop$Script", name := "end", desc := "()V" } : Jvm.MethodName) ({ cls := "SortingLoop$Parser", name := "end", desc := "()V" } : Jvm.MethodName)) ∈ lw_all := lw_g (lw_at lw_m8 80 rfl) rfl
theorem q2216 : (Jvm.Cond.selects "SortingLoop$Script" ({ cls := "java/lang/Object", name := "equals", desc := "(Ljava/lang/Object;)Z" } : Jvm.MethodName) ({ cls := "java/lang/Object", name := "equals", desc := "(Ljava/lang/Object;)Z" } : Jvm.MethodName)) ∈ lw_all := lw_g (lw_at lw_m9 159 rfl) rfl
theorem q3336 : (Jvm.Cond.selects "SortingLoop$Script" ({ cls := "SortingLoop$Parser", name := "expect", desc := "(ZI)V" } : Jvm.MethodName) ({ cls := "SortingLoop$Parser", name := "expect", desc := "(ZI)V" } : Jvm.MethodName)) ∈ lw_all := lw_g (lw_at lw_m14 79 rfl) rfl
theorem q3380 : (Jvm.Cond.castable "SortingLoop$Script" "java/lang/Object") ∈ lw_tbl := lw_at lw_m14 123 rfl
theorem in_X10 : ∀ w ∈ wsX100, w ∈ lw_all := lw_in wsX100 [1774, 1775, 1776, 1777, 1778, 1779, 1770, 1772] (by decide +kernel) (by decide +kernel)

/-! SortingLoop$Deed -/
set_option maxRecDepth 100000
def RX11 : String := "SortingLoop$Deed"
abbrev cX11_init : ByteArray := prog_3_method_1_code
def yX11_init : MethodName := ⟨RX11, "<init>", "([I)V"⟩
def dkwX11_init_1 : List UInt8 := [164, 0, 9, 43, 4, 46, 167, 0, 4, 2, 181, 0, 15, 177]
abbrev dktX11_init_1 : List UInt8 := dkwX11_init_1 ++ []
def dkwX11_init_0 : List UInt8 := [42, 183, 0, 3, 42, 43, 190, 158, 0, 9, 43, 3, 46, 167, 0, 4, 2, 181, 0, 9, 42, 43, 190, 4]
abbrev dktX11_init_0 : List UInt8 := dkwX11_init_0 ++ dktX11_init_1
theorem dksX11_init_0 : cX11_init.data.toList.drop 0 = dktX11_init_0 := by decide +kernel
theorem dksX11_init_1 : cX11_init.data.toList.drop 24 = dktX11_init_1 := dk_seg dksX11_init_0 24 rfl rfl
theorem dX11_init_0 : decode cX11_init 0 = .ok (.aload_n 0, 1) := dk_42 (dk_at dksX11_init_0 0 rfl rfl)
theorem dX11_init_1 : decode cX11_init 1 = .ok (.invokespecial 3, 3) := dk_183 0 3 (dk_at dksX11_init_0 1 rfl rfl)
theorem dX11_init_4 : decode cX11_init 4 = .ok (.aload_n 0, 1) := dk_42 (dk_at dksX11_init_0 4 rfl rfl)
theorem dX11_init_5 : decode cX11_init 5 = .ok (.aload_n 1, 1) := dk_43 (dk_at dksX11_init_0 5 rfl rfl)
theorem dX11_init_6 : decode cX11_init 6 = .ok (.arraylength, 1) := dk_190 (dk_at dksX11_init_0 6 rfl rfl)
theorem dX11_init_7 : decode cX11_init 7 = .ok (.ifCond .le 9, 3) := dk_158 0 9 (dk_at dksX11_init_0 7 rfl rfl)
theorem dX11_init_10 : decode cX11_init 10 = .ok (.aload_n 1, 1) := dk_43 (dk_at dksX11_init_0 10 rfl rfl)
theorem dX11_init_11 : decode cX11_init 11 = .ok (.iconst 0, 1) := dk_3 (dk_at dksX11_init_0 11 rfl rfl)
theorem dX11_init_12 : decode cX11_init 12 = .ok (.iaload, 1) := dk_46 (dk_at dksX11_init_0 12 rfl rfl)
theorem dX11_init_13 : decode cX11_init 13 = .ok (.goto 4, 3) := dk_167 0 4 (dk_at dksX11_init_0 13 rfl rfl)
theorem dX11_init_16 : decode cX11_init 16 = .ok (.iconst (-1), 1) := dk_2 (dk_at dksX11_init_0 16 rfl rfl)
theorem dX11_init_17 : decode cX11_init 17 = .ok (.putfield 9, 3) := dk_181 0 9 (dk_at dksX11_init_0 17 rfl rfl)
theorem dX11_init_20 : decode cX11_init 20 = .ok (.aload_n 0, 1) := dk_42 (dk_at dksX11_init_0 20 rfl rfl)
theorem dX11_init_21 : decode cX11_init 21 = .ok (.aload_n 1, 1) := dk_43 (dk_at dksX11_init_0 21 rfl rfl)
theorem dX11_init_22 : decode cX11_init 22 = .ok (.arraylength, 1) := dk_190 (dk_at dksX11_init_0 22 rfl rfl)
theorem dX11_init_23 : decode cX11_init 23 = .ok (.iconst 1, 1) := dk_4 (dk_at dksX11_init_0 23 rfl rfl)
theorem dX11_init_24 : decode cX11_init 24 = .ok (.if_icmp .le 9, 3) := dk_164 0 9 (dk_at dksX11_init_1 0 rfl rfl)
theorem dX11_init_27 : decode cX11_init 27 = .ok (.aload_n 1, 1) := dk_43 (dk_at dksX11_init_1 3 rfl rfl)
theorem dX11_init_28 : decode cX11_init 28 = .ok (.iconst 1, 1) := dk_4 (dk_at dksX11_init_1 4 rfl rfl)
theorem dX11_init_29 : decode cX11_init 29 = .ok (.iaload, 1) := dk_46 (dk_at dksX11_init_1 5 rfl rfl)
theorem dX11_init_30 : decode cX11_init 30 = .ok (.goto 4, 3) := dk_167 0 4 (dk_at dksX11_init_1 6 rfl rfl)
theorem dX11_init_33 : decode cX11_init 33 = .ok (.iconst (-1), 1) := dk_2 (dk_at dksX11_init_1 9 rfl rfl)
theorem dX11_init_34 : decode cX11_init 34 = .ok (.putfield 15, 3) := dk_181 0 15 (dk_at dksX11_init_1 10 rfl rfl)
theorem dX11_init_37 : decode cX11_init 37 = .ok (.return_, 1) := dk_177 (dk_at dksX11_init_1 13 rfl rfl)
abbrev cX11_first : ByteArray := prog_3_method_3_code
def yX11_first : MethodName := ⟨RX11, "first", "()I"⟩
theorem dX11_first_0 : decode cX11_first 0 = .ok (.aload_n 0, 1) := by decide +kernel
theorem dX11_first_1 : decode cX11_first 1 = .ok (.getfield 9, 3) := by decide +kernel
theorem dX11_first_4 : decode cX11_first 4 = .ok (.ireturn, 1) := by decide +kernel
abbrev cX11_second : ByteArray := prog_3_method_4_code
def yX11_second : MethodName := ⟨RX11, "second", "()I"⟩
theorem dX11_second_0 : decode cX11_second 0 = .ok (.aload_n 0, 1) := by decide +kernel
theorem dX11_second_1 : decode cX11_second 1 = .ok (.getfield 15, 3) := by decide +kernel
theorem dX11_second_4 : decode cX11_second 4 = .ok (.ireturn, 1) := by decide +kernel
theorem q183 : (Jvm.Cond.initialized "SortingLoop$Deed") ∈ lw_all := lw_g (lw_at lw_m1 46 rfl) rfl
theorem q1834 : (Jvm.Cond.instanceMethod ({ cls := "SortingLoop$Deed", name := "<init>", desc := "([I)V" } : Jvm.MethodName)) ∈ lw_all := lw_g (lw_at lw_m8 17 rfl) rfl
theorem q1835 : (Jvm.Cond.code ({ cls := "SortingLoop$Deed", name := "<init>", desc := "([I)V" } : Jvm.MethodName) prog_3_method_1_code (2 : Nat) (Option.none : Option Jvm.ClassFile.FieldType)) ∈ lw_all := lw_g (lw_at lw_m8 18 rfl) rfl
theorem q1836 : (Jvm.Cond.methodLink "SortingLoop$Deed" (3 : Nat) ({ cls := "java/lang/Object", name := "<init>", desc := "()V" } : Jvm.MethodName)) ∈ lw_all := lw_g (lw_at lw_m8 19 rfl) rfl
theorem q1837 : (Jvm.Cond.fieldLink "SortingLoop$Deed" (9 : Nat) "SortingLoop$Deed" "first" "I") ∈ lw_all := lw_g (lw_at lw_m8 20 rfl) rfl
theorem q1838 : (Jvm.Cond.fieldLink "SortingLoop$Deed" (15 : Nat) "SortingLoop$Deed" "second" "I") ∈ lw_all := lw_g (lw_at lw_m8 21 rfl) rfl
theorem q1840 : (Jvm.Cond.soleField "SortingLoop$Deed" "first") ∈ lw_all := lw_g (lw_at lw_m8 23 rfl) rfl
theorem q1842 : (Jvm.Cond.soleField "SortingLoop$Deed" "second") ∈ lw_all := lw_g (lw_at lw_m8 25 rfl) rfl
theorem q1959 : (Jvm.Cond.declares ({ cls := "SortingLoop$Deed", name := "does", desc := "(LSortingLoop$Loop;)Z" } : Jvm.MethodName)) ∈ lw_tbl := lw_at lw_m8 142 rfl
theorem q1960 : (Jvm.Cond.sameMethod "SortingLoop$Deed" "SortingLoop$Deed" "does" "(LSortingLoop$Loop;)Z") ∈ lw_all := lw_g (lw_at lw_m8 143 rfl) rfl
theorem q1966 : (Jvm.Cond.declares ({ cls := "SortingLoop$Deed", name := "first", desc := "()I" } : Jvm.MethodName)) ∈ lw_tbl := lw_at lw_m8 149 rfl
theorem q1968 : (Jvm.Cond.instanceMethod ({ cls := "SortingLoop$Deed", name := "first", desc := "()I" } : Jvm.MethodName)) ∈ lw_all := lw_g (lw_at lw_m8 151 rfl) rfl
theorem q1969 : (Jvm.Cond.code ({ cls := "SortingLoop$Deed", name := "first", desc := "()I" } : Jvm.MethodName) prog_3_method_3_code (1 : Nat) (Option.some Jvm.ClassFile.FieldType.int)) ∈ lw_all := lw_g (lw_at lw_m8 152 rfl) rfl
theorem q1984 : (Jvm.Cond.declares ({ cls := "SortingLoop$Deed", name := "second", desc := "()I" } : Jvm.MethodName)) ∈ lw_tbl := lw_at lw_m8 167 rfl
theorem q1986 : (Jvm.Cond.instanceMethod ({ cls := "SortingLoop$Deed", name := "second", desc := "()I" } : Jvm.MethodName)) ∈ lw_all := lw_g (lw_at lw_m8 169 rfl) rfl
theorem q1987 : (Jvm.Cond.code ({ cls := "SortingLoop$Deed", name := "second", desc := "()I" } : Jvm.MethodName) prog_3_method_4_code (1 : Nat) (Option.some Jvm.ClassFile.FieldType.int)) ∈ lw_all := lw_g (lw_at lw_m8 170 rfl) rfl

/-! SortingLoop$Putting -/
set_option maxRecDepth 100000
def RX12 : String := "SortingLoop$Putting"
def TX12 : u_T := fun k => match k with
  | 0 => ("SortingLoop$Deed", "first", "I", true)
  | _ => ("SortingLoop$Deed", "second", "I", true)
def tyX12 : Nat → FieldType := fun k => match k with
  | 0 => .int
  | _ => .int
abbrev wsX120 : List Cond := u_ws RX12 TX12 2
theorem nmX12 : ∀ a, a < 2 → ∀ b, b < 2 → a ≠ b → (TX12 a).2.1 ≠ (TX12 b).2.1 := by decide +kernel
theorem tyX12_ok : ∀ k, k < 2 → parseFieldDescriptor (TX12 k).2.2.1 = some (tyX12 k) := by decide +kernel
abbrev cX12_init : ByteArray := prog_12_method_1_code
def yX12_init : MethodName := ⟨RX12, "<init>", "([I)V"⟩
def dkwX12_init_0 : List UInt8 := [42, 43, 183, 0, 1, 177]
abbrev dktX12_init_0 : List UInt8 := dkwX12_init_0 ++ []
theorem dksX12_init_0 : cX12_init.data.toList.drop 0 = dktX12_init_0 := by decide +kernel
theorem dX12_init_0 : decode cX12_init 0 = .ok (.aload_n 0, 1) := dk_42 (dk_at dksX12_init_0 0 rfl rfl)
theorem dX12_init_1 : decode cX12_init 1 = .ok (.aload_n 1, 1) := dk_43 (dk_at dksX12_init_0 1 rfl rfl)
theorem dX12_init_2 : decode cX12_init 2 = .ok (.invokespecial 1, 3) := dk_183 0 1 (dk_at dksX12_init_0 2 rfl rfl)
theorem dX12_init_5 : decode cX12_init 5 = .ok (.return_, 1) := dk_177 (dk_at dksX12_init_0 5 rfl rfl)
abbrev cX12_does : ByteArray := prog_12_method_2_code
def yX12_does : MethodName := ⟨RX12, "does", "(LSortingLoop$Loop;)Z"⟩
def dkwX12_does_1 : List UInt8 := [167, 0, 4, 3, 172]
abbrev dktX12_does_1 : List UInt8 := dkwX12_does_1 ++ []
def dkwX12_does_0 : List UInt8 := [43, 182, 0, 7, 154, 0, 22, 43, 42, 182, 0, 13, 42, 182, 0, 18, 182, 0, 21, 155, 0, 7, 4]
abbrev dktX12_does_0 : List UInt8 := dkwX12_does_0 ++ dktX12_does_1
theorem dksX12_does_0 : cX12_does.data.toList.drop 0 = dktX12_does_0 := by decide +kernel
theorem dksX12_does_1 : cX12_does.data.toList.drop 23 = dktX12_does_1 := dk_seg dksX12_does_0 23 rfl rfl
theorem dX12_does_0 : decode cX12_does 0 = .ok (.aload_n 1, 1) := dk_43 (dk_at dksX12_does_0 0 rfl rfl)
theorem dX12_does_1 : decode cX12_does 1 = .ok (.invokevirtual 7, 3) := dk_182 0 7 (dk_at dksX12_does_0 1 rfl rfl)
theorem dX12_does_4 : decode cX12_does 4 = .ok (.ifCond .ne 22, 3) := dk_154 0 22 (dk_at dksX12_does_0 4 rfl rfl)
theorem dX12_does_7 : decode cX12_does 7 = .ok (.aload_n 1, 1) := dk_43 (dk_at dksX12_does_0 7 rfl rfl)
theorem dX12_does_8 : decode cX12_does 8 = .ok (.aload_n 0, 1) := dk_42 (dk_at dksX12_does_0 8 rfl rfl)
theorem dX12_does_9 : decode cX12_does 9 = .ok (.invokevirtual 13, 3) := dk_182 0 13 (dk_at dksX12_does_0 9 rfl rfl)
theorem dX12_does_12 : decode cX12_does 12 = .ok (.aload_n 0, 1) := dk_42 (dk_at dksX12_does_0 12 rfl rfl)
theorem dX12_does_13 : decode cX12_does 13 = .ok (.invokevirtual 18, 3) := dk_182 0 18 (dk_at dksX12_does_0 13 rfl rfl)
theorem dX12_does_16 : decode cX12_does 16 = .ok (.invokevirtual 21, 3) := dk_182 0 21 (dk_at dksX12_does_0 16 rfl rfl)
theorem dX12_does_19 : decode cX12_does 19 = .ok (.ifCond .lt 7, 3) := dk_155 0 7 (dk_at dksX12_does_0 19 rfl rfl)
theorem dX12_does_22 : decode cX12_does 22 = .ok (.iconst 1, 1) := dk_4 (dk_at dksX12_does_0 22 rfl rfl)
theorem dX12_does_23 : decode cX12_does 23 = .ok (.goto 4, 3) := dk_167 0 4 (dk_at dksX12_does_1 0 rfl rfl)
theorem dX12_does_26 : decode cX12_does 26 = .ok (.iconst 0, 1) := dk_3 (dk_at dksX12_does_1 3 rfl rfl)
theorem dX12_does_27 : decode cX12_does 27 = .ok (.ireturn, 1) := dk_172 (dk_at dksX12_does_1 4 rfl rfl)
theorem q184 : (Jvm.Cond.initialized "SortingLoop$Putting") ∈ lw_all := lw_g (lw_at lw_m1 47 rfl) rfl
theorem q614 : (Jvm.Cond.selects "SortingLoop$Putting" ({ cls := "java/lang/Object", name := "getClass", desc := "()Ljava/lang/Class;" } : Jvm.MethodName) ({ cls := "java/lang/Object", name := "getClass", desc := "()Ljava/lang/Class;" } : Jvm.MethodName)) ∈ lw_all := lw_g (lw_at lw_m2 237 rfl) rfl
theorem q1829 : (Jvm.Cond.instantiable "SortingLoop$Putting" (2 : Nat)) ∈ lw_all := lw_g (lw_at lw_m8 12 rfl) rfl
theorem q1831 : (Jvm.Cond.instanceMethod ({ cls := "SortingLoop$Putting", name := "<init>", desc := "([I)V" } : Jvm.MethodName)) ∈ lw_all := lw_g (lw_at lw_m8 14 rfl) rfl
theorem q1832 : (Jvm.Cond.code ({ cls := "SortingLoop$Putting", name := "<init>", desc := "([I)V" } : Jvm.MethodName) prog_12_method_1_code (2 : Nat) (Option.none : Option Jvm.ClassFile.FieldType)) ∈ lw_all := lw_g (lw_at lw_m8 15 rfl) rfl
theorem q1833 : (Jvm.Cond.methodLink "SortingLoop$Putting" (1 : Nat) ({ cls := "SortingLoop$Deed", name := "<init>", desc := "([I)V" } : Jvm.MethodName)) ∈ lw_all := lw_g (lw_at lw_m8 16 rfl) rfl
theorem q1839 : (Jvm.Cond.laysFinal "SortingLoop$Putting" "SortingLoop$Deed" "first" "I") ∈ lw_all := lw_g (lw_at lw_m8 22 rfl) rfl
theorem q1841 : (Jvm.Cond.laysFinal "SortingLoop$Putting" "SortingLoop$Deed" "second" "I") ∈ lw_all := lw_g (lw_at lw_m8 24 rfl) rfl
theorem q1843 : (Jvm.Cond.superclass "SortingLoop$Putting" "SortingLoop$Deed") ∈ lw_all := lw_g (lw_at lw_m8 26 rfl) rfl
theorem q1992 : (Jvm.Cond.selects "SortingLoop$Putting" ({ cls := "SortingLoop$Deed", name := "does", desc := "(LSortingLoop$Loop;)Z" } : Jvm.MethodName) ({ cls := "SortingLoop$Putting", name := "does", desc := "(LSortingLoop$Loop;)Z" } : Jvm.MethodName)) ∈ lw_all := lw_g (lw_at lw_m8 175 rfl) rfl
theorem q1993 : (Jvm.Cond.instanceMethod ({ cls := "SortingLoop$Putting", name := "does", desc := "(LSortingLoop$Loop;)Z" } : Jvm.MethodName)) ∈ lw_all := lw_g (lw_at lw_m8 176 rfl) rfl
theorem q1994 : (Jvm.Cond.code ({ cls := "SortingLoop$Putting", name := "does", desc := "(LSortingLoop$Loop;)Z" } : Jvm.MethodName) prog_12_method_2_code (2 : Nat) (Option.some Jvm.ClassFile.FieldType.boolean)) ∈ lw_all := lw_g (lw_at lw_m8 177 rfl) rfl
theorem q1995 : (Jvm.Cond.methodLink "SortingLoop$Putting" (7 : Nat) ({ cls := "SortingLoop$Loop", name := "againstPut", desc := "()I" } : Jvm.MethodName)) ∈ lw_all := lw_g (lw_at lw_m8 178 rfl) rfl
theorem q2005 : (Jvm.Cond.methodLink "SortingLoop$Putting" (13 : Nat) ({ cls := "SortingLoop$Putting", name := "first", desc := "()I" } : Jvm.MethodName)) ∈ lw_all := lw_g (lw_at lw_m8 188 rfl) rfl
theorem q2006 : (Jvm.Cond.sameMethod "SortingLoop$Putting" "SortingLoop$Deed" "first" "()I") ∈ lw_all := lw_g (lw_at lw_m8 189 rfl) rfl
theorem q2007 : (Jvm.Cond.selects "SortingLoop$Putting" ({ cls := "SortingLoop$Putting", name := "first", desc := "()I" } : Jvm.MethodName) ({ cls := "SortingLoop$Deed", name := "first", desc := "()I" } : Jvm.MethodName)) ∈ lw_all := lw_g (lw_at lw_m8 190 rfl) rfl
theorem q2008 : (Jvm.Cond.methodLink "SortingLoop$Putting" (18 : Nat) ({ cls := "SortingLoop$Putting", name := "second", desc := "()I" } : Jvm.MethodName)) ∈ lw_all := lw_g (lw_at lw_m8 191 rfl) rfl
theorem q2009 : (Jvm.Cond.sameMethod "SortingLoop$Putting" "SortingLoop$Deed" "second" "()I") ∈ lw_all := lw_g (lw_at lw_m8 192 rfl) rfl
theorem q2010 : (Jvm.Cond.selects "SortingLoop$Putting" ({ cls := "SortingLoop$Putting", name := "second", desc := "()I" } : Jvm.MethodName) ({ cls := "SortingLoop$Deed", name := "second", desc := "()I" } : Jvm.MethodName)) ∈ lw_all := lw_g (lw_at lw_m8 193 rfl) rfl
theorem q2011 : (Jvm.Cond.methodLink "SortingLoop$Putting" (21 : Nat) ({ cls := "SortingLoop$Loop", name := "puts", desc := "(II)I" } : Jvm.MethodName)) ∈ lw_all := lw_g (lw_at lw_m8 194 rfl) rfl
theorem q2215 : (Jvm.Cond.selects "SortingLoop$Putting" ({ cls := "java/lang/Object", name := "equals", desc := "(Ljava/lang/Object;)Z" } : Jvm.MethodName) ({ cls := "java/lang/Object", name := "equals", desc := "(Ljava/lang/Object;)Z" } : Jvm.MethodName)) ∈ lw_all := lw_g (lw_at lw_m9 158 rfl) rfl
theorem q3352 : (Jvm.Cond.castable "SortingLoop$Putting" "SortingLoop$Deed") ∈ lw_tbl := lw_at lw_m14 95 rfl
theorem q3381 : (Jvm.Cond.castable "SortingLoop$Putting" "java/lang/Object") ∈ lw_tbl := lw_at lw_m14 124 rfl
theorem in_X12 : ∀ w ∈ wsX120, w ∈ lw_all := lw_in wsX120 [1839, 1841] (by decide +kernel) (by decide +kernel)

/-! SortingLoop$Ticking -/
set_option maxRecDepth 100000
def RX13 : String := "SortingLoop$Ticking"
def TX13 : u_T := fun k => match k with
  | 0 => ("SortingLoop$Deed", "first", "I", true)
  | _ => ("SortingLoop$Deed", "second", "I", true)
def tyX13 : Nat → FieldType := fun k => match k with
  | 0 => .int
  | _ => .int
abbrev wsX130 : List Cond := u_ws RX13 TX13 2
theorem nmX13 : ∀ a, a < 2 → ∀ b, b < 2 → a ≠ b → (TX13 a).2.1 ≠ (TX13 b).2.1 := by decide +kernel
theorem tyX13_ok : ∀ k, k < 2 → parseFieldDescriptor (TX13 k).2.2.1 = some (tyX13 k) := by decide +kernel
abbrev cX13_init : ByteArray := prog_17_method_1_code
def yX13_init : MethodName := ⟨RX13, "<init>", "([I)V"⟩
def dkwX13_init_0 : List UInt8 := [42, 43, 183, 0, 3, 177]
abbrev dktX13_init_0 : List UInt8 := dkwX13_init_0 ++ []
theorem dksX13_init_0 : cX13_init.data.toList.drop 0 = dktX13_init_0 := by decide +kernel
theorem dX13_init_0 : decode cX13_init 0 = .ok (.aload_n 0, 1) := dk_42 (dk_at dksX13_init_0 0 rfl rfl)
theorem dX13_init_1 : decode cX13_init 1 = .ok (.aload_n 1, 1) := dk_43 (dk_at dksX13_init_0 1 rfl rfl)
theorem dX13_init_2 : decode cX13_init 2 = .ok (.invokespecial 3, 3) := dk_183 0 3 (dk_at dksX13_init_0 2 rfl rfl)
theorem dX13_init_5 : decode cX13_init 5 = .ok (.return_, 1) := dk_177 (dk_at dksX13_init_0 5 rfl rfl)
abbrev cX13_does : ByteArray := prog_17_method_2_code
def yX13_does : MethodName := ⟨RX13, "does", "(LSortingLoop$Loop;)Z"⟩
def dkwX13_does_1 : List UInt8 := [155, 0, 7, 4, 167, 0, 4, 3, 172]
abbrev dktX13_does_1 : List UInt8 := dkwX13_does_1 ++ []
def dkwX13_does_0 : List UInt8 := [43, 180, 0, 9, 42, 182, 0, 15, 96, 17, 39, 15, 163, 0, 18, 43, 42, 182, 0, 15, 182, 0, 21]
abbrev dktX13_does_0 : List UInt8 := dkwX13_does_0 ++ dktX13_does_1
theorem dksX13_does_0 : cX13_does.data.toList.drop 0 = dktX13_does_0 := by decide +kernel
theorem dksX13_does_1 : cX13_does.data.toList.drop 23 = dktX13_does_1 := dk_seg dksX13_does_0 23 rfl rfl
theorem dX13_does_0 : decode cX13_does 0 = .ok (.aload_n 1, 1) := dk_43 (dk_at dksX13_does_0 0 rfl rfl)
theorem dX13_does_1 : decode cX13_does 1 = .ok (.getfield 9, 3) := dk_180 0 9 (dk_at dksX13_does_0 1 rfl rfl)
theorem dX13_does_4 : decode cX13_does 4 = .ok (.aload_n 0, 1) := dk_42 (dk_at dksX13_does_0 4 rfl rfl)
theorem dX13_does_5 : decode cX13_does 5 = .ok (.invokevirtual 15, 3) := dk_182 0 15 (dk_at dksX13_does_0 5 rfl rfl)
theorem dX13_does_8 : decode cX13_does 8 = .ok (.iadd, 1) := dk_96 (dk_at dksX13_does_0 8 rfl rfl)
theorem dX13_does_9 : decode cX13_does 9 = .ok (.sipush 9999, 3) := dk_17 39 15 (dk_at dksX13_does_0 9 rfl rfl)
theorem dX13_does_12 : decode cX13_does 12 = .ok (.if_icmp .gt 18, 3) := dk_163 0 18 (dk_at dksX13_does_0 12 rfl rfl)
theorem dX13_does_15 : decode cX13_does 15 = .ok (.aload_n 1, 1) := dk_43 (dk_at dksX13_does_0 15 rfl rfl)
theorem dX13_does_16 : decode cX13_does 16 = .ok (.aload_n 0, 1) := dk_42 (dk_at dksX13_does_0 16 rfl rfl)
theorem dX13_does_17 : decode cX13_does 17 = .ok (.invokevirtual 15, 3) := dk_182 0 15 (dk_at dksX13_does_0 17 rfl rfl)
theorem dX13_does_20 : decode cX13_does 20 = .ok (.invokevirtual 21, 3) := dk_182 0 21 (dk_at dksX13_does_0 20 rfl rfl)
theorem dX13_does_23 : decode cX13_does 23 = .ok (.ifCond .lt 7, 3) := dk_155 0 7 (dk_at dksX13_does_1 0 rfl rfl)
theorem dX13_does_26 : decode cX13_does 26 = .ok (.iconst 1, 1) := dk_4 (dk_at dksX13_does_1 3 rfl rfl)
theorem dX13_does_27 : decode cX13_does 27 = .ok (.goto 4, 3) := dk_167 0 4 (dk_at dksX13_does_1 4 rfl rfl)
theorem dX13_does_30 : decode cX13_does 30 = .ok (.iconst 0, 1) := dk_3 (dk_at dksX13_does_1 7 rfl rfl)
theorem dX13_does_31 : decode cX13_does 31 = .ok (.ireturn, 1) := dk_172 (dk_at dksX13_does_1 8 rfl rfl)
theorem q185 : (Jvm.Cond.initialized "SortingLoop$Ticking") ∈ lw_all := lw_g (lw_at lw_m1 48 rfl) rfl
theorem q619 : (Jvm.Cond.selects "SortingLoop$Ticking" ({ cls := "java/lang/Object", name := "getClass", desc := "()Ljava/lang/Class;" } : Jvm.MethodName) ({ cls := "java/lang/Object", name := "getClass", desc := "()Ljava/lang/Class;" } : Jvm.MethodName)) ∈ lw_all := lw_g (lw_at lw_m3 2 rfl) rfl
theorem q703 : (Jvm.Cond.fieldLinkNest "SortingLoop$Ticking" (9 : Nat) "SortingLoop$Loop" "tick" "I" "SortingLoop") ∈ lw_tbl := lw_at lw_m3 86 rfl
theorem q1845 : (Jvm.Cond.instantiable "SortingLoop$Ticking" (2 : Nat)) ∈ lw_all := lw_g (lw_at lw_m8 28 rfl) rfl
theorem q1847 : (Jvm.Cond.instanceMethod ({ cls := "SortingLoop$Ticking", name := "<init>", desc := "([I)V" } : Jvm.MethodName)) ∈ lw_all := lw_g (lw_at lw_m8 30 rfl) rfl
theorem q1848 : (Jvm.Cond.code ({ cls := "SortingLoop$Ticking", name := "<init>", desc := "([I)V" } : Jvm.MethodName) prog_17_method_1_code (2 : Nat) (Option.none : Option Jvm.ClassFile.FieldType)) ∈ lw_all := lw_g (lw_at lw_m8 31 rfl) rfl
theorem q1849 : (Jvm.Cond.methodLink "SortingLoop$Ticking" (3 : Nat) ({ cls := "SortingLoop$Deed", name := "<init>", desc := "([I)V" } : Jvm.MethodName)) ∈ lw_all := lw_g (lw_at lw_m8 32 rfl) rfl
theorem q1850 : (Jvm.Cond.laysFinal "SortingLoop$Ticking" "SortingLoop$Deed" "first" "I") ∈ lw_all := lw_g (lw_at lw_m8 33 rfl) rfl
theorem q1851 : (Jvm.Cond.laysFinal "SortingLoop$Ticking" "SortingLoop$Deed" "second" "I") ∈ lw_all := lw_g (lw_at lw_m8 34 rfl) rfl
theorem q1852 : (Jvm.Cond.superclass "SortingLoop$Ticking" "SortingLoop$Deed") ∈ lw_all := lw_g (lw_at lw_m8 35 rfl) rfl
theorem q2046 : (Jvm.Cond.selects "SortingLoop$Ticking" ({ cls := "SortingLoop$Deed", name := "does", desc := "(LSortingLoop$Loop;)Z" } : Jvm.MethodName) ({ cls := "SortingLoop$Ticking", name := "does", desc := "(LSortingLoop$Loop;)Z" } : Jvm.MethodName)) ∈ lw_all := lw_g (lw_at lw_m8 229 rfl) rfl
theorem q2047 : (Jvm.Cond.instanceMethod ({ cls := "SortingLoop$Ticking", name := "does", desc := "(LSortingLoop$Loop;)Z" } : Jvm.MethodName)) ∈ lw_all := lw_g (lw_at lw_m8 230 rfl) rfl
theorem q2048 : (Jvm.Cond.code ({ cls := "SortingLoop$Ticking", name := "does", desc := "(LSortingLoop$Loop;)Z" } : Jvm.MethodName) prog_17_method_2_code (2 : Nat) (Option.some Jvm.ClassFile.FieldType.boolean)) ∈ lw_all := lw_g (lw_at lw_m8 231 rfl) rfl
theorem q2049 : (Jvm.Cond.methodLink "SortingLoop$Ticking" (15 : Nat) ({ cls := "SortingLoop$Ticking", name := "first", desc := "()I" } : Jvm.MethodName)) ∈ lw_all := lw_g (lw_at lw_m8 232 rfl) rfl
theorem q2050 : (Jvm.Cond.sameMethod "SortingLoop$Ticking" "SortingLoop$Deed" "first" "()I") ∈ lw_all := lw_g (lw_at lw_m8 233 rfl) rfl
theorem q2051 : (Jvm.Cond.selects "SortingLoop$Ticking" ({ cls := "SortingLoop$Ticking", name := "first", desc := "()I" } : Jvm.MethodName) ({ cls := "SortingLoop$Deed", name := "first", desc := "()I" } : Jvm.MethodName)) ∈ lw_all := lw_g (lw_at lw_m8 234 rfl) rfl
theorem q2052 : (Jvm.Cond.methodLink "SortingLoop$Ticking" (21 : Nat) ({ cls := "SortingLoop$Loop", name := "goes", desc := "(I)I" } : Jvm.MethodName)) ∈ lw_all := lw_g (lw_at lw_m8 235 rfl) rfl
theorem q2220 : (Jvm.Cond.selects "SortingLoop$Ticking" ({ cls := "java/lang/Object", name := "equals", desc := "(Ljava/lang/Object;)Z" } : Jvm.MethodName) ({ cls := "java/lang/Object", name := "equals", desc := "(Ljava/lang/Object;)Z" } : Jvm.MethodName)) ∈ lw_all := lw_g (lw_at lw_m9 163 rfl) rfl
theorem q3355 : (Jvm.Cond.castable "SortingLoop$Ticking" "SortingLoop$Deed") ∈ lw_tbl := lw_at lw_m14 98 rfl
theorem q3382 : (Jvm.Cond.castable "SortingLoop$Ticking" "java/lang/Object") ∈ lw_tbl := lw_at lw_m14 125 rfl
theorem in_X13 : ∀ w ∈ wsX130, w ∈ lw_all := lw_in wsX130 [1850, 1851] (by decide +kernel) (by decide +kernel)

/-! SortingLoop$Slipping -/
set_option maxRecDepth 100000
def RX14 : String := "SortingLoop$Slipping"
def TX14 : u_T := fun k => match k with
  | 0 => ("SortingLoop$Deed", "first", "I", true)
  | _ => ("SortingLoop$Deed", "second", "I", true)
def tyX14 : Nat → FieldType := fun k => match k with
  | 0 => .int
  | _ => .int
abbrev wsX140 : List Cond := u_ws RX14 TX14 2
theorem nmX14 : ∀ a, a < 2 → ∀ b, b < 2 → a ≠ b → (TX14 a).2.1 ≠ (TX14 b).2.1 := by decide +kernel
theorem tyX14_ok : ∀ k, k < 2 → parseFieldDescriptor (TX14 k).2.2.1 = some (tyX14 k) := by decide +kernel
abbrev cX14_init : ByteArray := prog_16_method_1_code
def yX14_init : MethodName := ⟨RX14, "<init>", "([I)V"⟩
def dkwX14_init_0 : List UInt8 := [42, 43, 183, 0, 1, 177]
abbrev dktX14_init_0 : List UInt8 := dkwX14_init_0 ++ []
theorem dksX14_init_0 : cX14_init.data.toList.drop 0 = dktX14_init_0 := by decide +kernel
theorem dX14_init_0 : decode cX14_init 0 = .ok (.aload_n 0, 1) := dk_42 (dk_at dksX14_init_0 0 rfl rfl)
theorem dX14_init_1 : decode cX14_init 1 = .ok (.aload_n 1, 1) := dk_43 (dk_at dksX14_init_0 1 rfl rfl)
theorem dX14_init_2 : decode cX14_init 2 = .ok (.invokespecial 1, 3) := dk_183 0 1 (dk_at dksX14_init_0 2 rfl rfl)
theorem dX14_init_5 : decode cX14_init 5 = .ok (.return_, 1) := dk_177 (dk_at dksX14_init_0 5 rfl rfl)
abbrev cX14_does : ByteArray := prog_16_method_2_code
def yX14_does : MethodName := ⟨RX14, "does", "(LSortingLoop$Loop;)Z"⟩
def dkwX14_does_2 : List UInt8 := [4, 167, 0, 4, 3, 172]
abbrev dktX14_does_2 : List UInt8 := dkwX14_does_2 ++ []
def dkwX14_does_1 : List UInt8 := [182, 0, 24, 182, 0, 28, 154, 0, 22, 43, 43, 42, 182, 0, 7, 182, 0, 24, 182, 0, 32, 155, 0, 7]
abbrev dktX14_does_1 : List UInt8 := dkwX14_does_1 ++ dktX14_does_2
def dkwX14_does_0 : List UInt8 := [42, 182, 0, 7, 43, 180, 0, 13, 185, 0, 19, 1, 0, 162, 0, 37, 43, 43, 42, 182, 0, 7]
abbrev dktX14_does_0 : List UInt8 := dkwX14_does_0 ++ dktX14_does_1
theorem dksX14_does_0 : cX14_does.data.toList.drop 0 = dktX14_does_0 := by decide +kernel
theorem dksX14_does_1 : cX14_does.data.toList.drop 22 = dktX14_does_1 := dk_seg dksX14_does_0 22 rfl rfl
theorem dksX14_does_2 : cX14_does.data.toList.drop 46 = dktX14_does_2 := dk_seg dksX14_does_1 24 rfl rfl
theorem dX14_does_0 : decode cX14_does 0 = .ok (.aload_n 0, 1) := dk_42 (dk_at dksX14_does_0 0 rfl rfl)
theorem dX14_does_1 : decode cX14_does 1 = .ok (.invokevirtual 7, 3) := dk_182 0 7 (dk_at dksX14_does_0 1 rfl rfl)
theorem dX14_does_4 : decode cX14_does 4 = .ok (.aload_n 1, 1) := dk_43 (dk_at dksX14_does_0 4 rfl rfl)
theorem dX14_does_5 : decode cX14_does 5 = .ok (.getfield 13, 3) := dk_180 0 13 (dk_at dksX14_does_0 5 rfl rfl)
theorem dX14_does_8 : decode cX14_does 8 = .ok (.invokeinterface 19 1, 5) := by decide +kernel
theorem dX14_does_13 : decode cX14_does 13 = .ok (.if_icmp .ge 37, 3) := dk_162 0 37 (dk_at dksX14_does_0 13 rfl rfl)
theorem dX14_does_16 : decode cX14_does 16 = .ok (.aload_n 1, 1) := dk_43 (dk_at dksX14_does_0 16 rfl rfl)
theorem dX14_does_17 : decode cX14_does 17 = .ok (.aload_n 1, 1) := dk_43 (dk_at dksX14_does_0 17 rfl rfl)
theorem dX14_does_18 : decode cX14_does 18 = .ok (.aload_n 0, 1) := dk_42 (dk_at dksX14_does_0 18 rfl rfl)
theorem dX14_does_19 : decode cX14_does 19 = .ok (.invokevirtual 7, 3) := dk_182 0 7 (dk_at dksX14_does_0 19 rfl rfl)
theorem dX14_does_22 : decode cX14_does 22 = .ok (.invokevirtual 24, 3) := dk_182 0 24 (dk_at dksX14_does_1 0 rfl rfl)
theorem dX14_does_25 : decode cX14_does 25 = .ok (.invokevirtual 28, 3) := dk_182 0 28 (dk_at dksX14_does_1 3 rfl rfl)
theorem dX14_does_28 : decode cX14_does 28 = .ok (.ifCond .ne 22, 3) := dk_154 0 22 (dk_at dksX14_does_1 6 rfl rfl)
theorem dX14_does_31 : decode cX14_does 31 = .ok (.aload_n 1, 1) := dk_43 (dk_at dksX14_does_1 9 rfl rfl)
theorem dX14_does_32 : decode cX14_does 32 = .ok (.aload_n 1, 1) := dk_43 (dk_at dksX14_does_1 10 rfl rfl)
theorem dX14_does_33 : decode cX14_does 33 = .ok (.aload_n 0, 1) := dk_42 (dk_at dksX14_does_1 11 rfl rfl)
theorem dX14_does_34 : decode cX14_does 34 = .ok (.invokevirtual 7, 3) := dk_182 0 7 (dk_at dksX14_does_1 12 rfl rfl)
theorem dX14_does_37 : decode cX14_does 37 = .ok (.invokevirtual 24, 3) := dk_182 0 24 (dk_at dksX14_does_1 15 rfl rfl)
theorem dX14_does_40 : decode cX14_does 40 = .ok (.invokevirtual 32, 3) := dk_182 0 32 (dk_at dksX14_does_1 18 rfl rfl)
theorem dX14_does_43 : decode cX14_does 43 = .ok (.ifCond .lt 7, 3) := dk_155 0 7 (dk_at dksX14_does_1 21 rfl rfl)
theorem dX14_does_46 : decode cX14_does 46 = .ok (.iconst 1, 1) := dk_4 (dk_at dksX14_does_2 0 rfl rfl)
theorem dX14_does_47 : decode cX14_does 47 = .ok (.goto 4, 3) := dk_167 0 4 (dk_at dksX14_does_2 1 rfl rfl)
theorem dX14_does_50 : decode cX14_does 50 = .ok (.iconst 0, 1) := dk_3 (dk_at dksX14_does_2 4 rfl rfl)
theorem dX14_does_51 : decode cX14_does 51 = .ok (.ireturn, 1) := dk_172 (dk_at dksX14_does_2 5 rfl rfl)
theorem q186 : (Jvm.Cond.initialized "SortingLoop$Slipping") ∈ lw_all := lw_g (lw_at lw_m1 49 rfl) rfl
theorem q618 : (Jvm.Cond.selects "SortingLoop$Slipping" ({ cls := "java/lang/Object", name := "getClass", desc := "()Ljava/lang/Class;" } : Jvm.MethodName) ({ cls := "java/lang/Object", name := "getClass", desc := "()Ljava/lang/Class;" } : Jvm.MethodName)) ∈ lw_all := lw_g (lw_at lw_m3 1 rfl) rfl
theorem q697 : (Jvm.Cond.fieldLinkNest "SortingLoop$Slipping" (13 : Nat) "SortingLoop$Loop" "parcels" "Ljava/util/List;" "SortingLoop") ∈ lw_tbl := lw_at lw_m3 80 rfl
theorem q1854 : (Jvm.Cond.instantiable "SortingLoop$Slipping" (2 : Nat)) ∈ lw_all := lw_g (lw_at lw_m8 37 rfl) rfl
theorem q1856 : (Jvm.Cond.instanceMethod ({ cls := "SortingLoop$Slipping", name := "<init>", desc := "([I)V" } : Jvm.MethodName)) ∈ lw_all := lw_g (lw_at lw_m8 39 rfl) rfl
theorem q1857 : (Jvm.Cond.code ({ cls := "SortingLoop$Slipping", name := "<init>", desc := "([I)V" } : Jvm.MethodName) prog_16_method_1_code (2 : Nat) (Option.none : Option Jvm.ClassFile.FieldType)) ∈ lw_all := lw_g (lw_at lw_m8 40 rfl) rfl
theorem q1858 : (Jvm.Cond.methodLink "SortingLoop$Slipping" (1 : Nat) ({ cls := "SortingLoop$Deed", name := "<init>", desc := "([I)V" } : Jvm.MethodName)) ∈ lw_all := lw_g (lw_at lw_m8 41 rfl) rfl
theorem q1859 : (Jvm.Cond.laysFinal "SortingLoop$Slipping" "SortingLoop$Deed" "first" "I") ∈ lw_all := lw_g (lw_at lw_m8 42 rfl) rfl
theorem q1860 : (Jvm.Cond.laysFinal "SortingLoop$Slipping" "SortingLoop$Deed" "second" "I") ∈ lw_all := lw_g (lw_at lw_m8 43 rfl) rfl
theorem q1861 : (Jvm.Cond.superclass "SortingLoop$Slipping" "SortingLoop$Deed") ∈ lw_all := lw_g (lw_at lw_m8 44 rfl) rfl
theorem q2029 : (Jvm.Cond.selects "SortingLoop$Slipping" ({ cls := "SortingLoop$Deed", name := "does", desc := "(LSortingLoop$Loop;)Z" } : Jvm.MethodName) ({ cls := "SortingLoop$Slipping", name := "does", desc := "(LSortingLoop$Loop;)Z" } : Jvm.MethodName)) ∈ lw_all := lw_g (lw_at lw_m8 212 rfl) rfl
theorem q2030 : (Jvm.Cond.instanceMethod ({ cls := "SortingLoop$Slipping", name := "does", desc := "(LSortingLoop$Loop;)Z" } : Jvm.MethodName)) ∈ lw_all := lw_g (lw_at lw_m8 213 rfl) rfl
theorem q2031 : (Jvm.Cond.code ({ cls := "SortingLoop$Slipping", name := "does", desc := "(LSortingLoop$Loop;)Z" } : Jvm.MethodName) prog_16_method_2_code (2 : Nat) (Option.some Jvm.ClassFile.FieldType.boolean)) ∈ lw_all := lw_g (lw_at lw_m8 214 rfl) rfl
theorem q2032 : (Jvm.Cond.methodLink "SortingLoop$Slipping" (7 : Nat) ({ cls := "SortingLoop$Slipping", name := "first", desc := "()I" } : Jvm.MethodName)) ∈ lw_all := lw_g (lw_at lw_m8 215 rfl) rfl
theorem q2033 : (Jvm.Cond.sameMethod "SortingLoop$Slipping" "SortingLoop$Deed" "first" "()I") ∈ lw_all := lw_g (lw_at lw_m8 216 rfl) rfl
theorem q2034 : (Jvm.Cond.selects "SortingLoop$Slipping" ({ cls := "SortingLoop$Slipping", name := "first", desc := "()I" } : Jvm.MethodName) ({ cls := "SortingLoop$Deed", name := "first", desc := "()I" } : Jvm.MethodName)) ∈ lw_all := lw_g (lw_at lw_m8 217 rfl) rfl
theorem q2035 : (Jvm.Cond.interfaceEntry "SortingLoop$Slipping" (19 : Nat)) ∈ lw_tbl := lw_at lw_m8 218 rfl
theorem q2036 : (Jvm.Cond.methodLink "SortingLoop$Slipping" (19 : Nat) ({ cls := "java/util/List", name := "size", desc := "()I" } : Jvm.MethodName)) ∈ lw_all := lw_g (lw_at lw_m8 219 rfl) rfl
theorem q2037 : (Jvm.Cond.methodLink "SortingLoop$Slipping" (24 : Nat) ({ cls := "SortingLoop$Loop", name := "parcel", desc := "(I)LSortingLoop$Parcel;" } : Jvm.MethodName)) ∈ lw_all := lw_g (lw_at lw_m8 220 rfl) rfl
theorem q2038 : (Jvm.Cond.methodLink "SortingLoop$Slipping" (28 : Nat) ({ cls := "SortingLoop$Loop", name := "againstSlip", desc := "(LSortingLoop$Parcel;)I" } : Jvm.MethodName)) ∈ lw_all := lw_g (lw_at lw_m8 221 rfl) rfl
theorem q2042 : (Jvm.Cond.methodLink "SortingLoop$Slipping" (32 : Nat) ({ cls := "SortingLoop$Loop", name := "slips", desc := "(LSortingLoop$Parcel;)I" } : Jvm.MethodName)) ∈ lw_all := lw_g (lw_at lw_m8 225 rfl) rfl
theorem q2219 : (Jvm.Cond.selects "SortingLoop$Slipping" ({ cls := "java/lang/Object", name := "equals", desc := "(Ljava/lang/Object;)Z" } : Jvm.MethodName) ({ cls := "java/lang/Object", name := "equals", desc := "(Ljava/lang/Object;)Z" } : Jvm.MethodName)) ∈ lw_all := lw_g (lw_at lw_m9 162 rfl) rfl
theorem q3354 : (Jvm.Cond.castable "SortingLoop$Slipping" "SortingLoop$Deed") ∈ lw_tbl := lw_at lw_m14 97 rfl
theorem q3383 : (Jvm.Cond.castable "SortingLoop$Slipping" "java/lang/Object") ∈ lw_tbl := lw_at lw_m14 126 rfl
theorem in_X14 : ∀ w ∈ wsX140, w ∈ lw_all := lw_in wsX140 [1859, 1860] (by decide +kernel) (by decide +kernel)

/-! SortingLoop$Emptying -/
set_option maxRecDepth 100000
def RX15 : String := "SortingLoop$Emptying"
def TX15 : u_T := fun k => match k with
  | 0 => ("SortingLoop$Deed", "first", "I", true)
  | _ => ("SortingLoop$Deed", "second", "I", true)
def tyX15 : Nat → FieldType := fun k => match k with
  | 0 => .int
  | _ => .int
abbrev wsX150 : List Cond := u_ws RX15 TX15 2
theorem nmX15 : ∀ a, a < 2 → ∀ b, b < 2 → a ≠ b → (TX15 a).2.1 ≠ (TX15 b).2.1 := by decide +kernel
theorem tyX15_ok : ∀ k, k < 2 → parseFieldDescriptor (TX15 k).2.2.1 = some (tyX15 k) := by decide +kernel
abbrev cX15_init : ByteArray := prog_4_method_1_code
def yX15_init : MethodName := ⟨RX15, "<init>", "([I)V"⟩
def dkwX15_init_0 : List UInt8 := [42, 43, 183, 0, 1, 177]
abbrev dktX15_init_0 : List UInt8 := dkwX15_init_0 ++ []
theorem dksX15_init_0 : cX15_init.data.toList.drop 0 = dktX15_init_0 := by decide +kernel
theorem dX15_init_0 : decode cX15_init 0 = .ok (.aload_n 0, 1) := dk_42 (dk_at dksX15_init_0 0 rfl rfl)
theorem dX15_init_1 : decode cX15_init 1 = .ok (.aload_n 1, 1) := dk_43 (dk_at dksX15_init_0 1 rfl rfl)
theorem dX15_init_2 : decode cX15_init 2 = .ok (.invokespecial 1, 3) := dk_183 0 1 (dk_at dksX15_init_0 2 rfl rfl)
theorem dX15_init_5 : decode cX15_init 5 = .ok (.return_, 1) := dk_177 (dk_at dksX15_init_0 5 rfl rfl)
abbrev cX15_does : ByteArray := prog_4_method_2_code
def yX15_does : MethodName := ⟨RX15, "does", "(LSortingLoop$Loop;)Z"⟩
def dkwX15_does_0 : List UInt8 := [43, 43, 42, 182, 0, 7, 182, 0, 13, 182, 0, 19, 155, 0, 7, 4, 167, 0, 4, 3, 172]
abbrev dktX15_does_0 : List UInt8 := dkwX15_does_0 ++ []
theorem dksX15_does_0 : cX15_does.data.toList.drop 0 = dktX15_does_0 := by decide +kernel
theorem dX15_does_0 : decode cX15_does 0 = .ok (.aload_n 1, 1) := dk_43 (dk_at dksX15_does_0 0 rfl rfl)
theorem dX15_does_1 : decode cX15_does 1 = .ok (.aload_n 1, 1) := dk_43 (dk_at dksX15_does_0 1 rfl rfl)
theorem dX15_does_2 : decode cX15_does 2 = .ok (.aload_n 0, 1) := dk_42 (dk_at dksX15_does_0 2 rfl rfl)
theorem dX15_does_3 : decode cX15_does 3 = .ok (.invokevirtual 7, 3) := dk_182 0 7 (dk_at dksX15_does_0 3 rfl rfl)
theorem dX15_does_6 : decode cX15_does 6 = .ok (.invokevirtual 13, 3) := dk_182 0 13 (dk_at dksX15_does_0 6 rfl rfl)
theorem dX15_does_9 : decode cX15_does 9 = .ok (.invokevirtual 19, 3) := dk_182 0 19 (dk_at dksX15_does_0 9 rfl rfl)
theorem dX15_does_12 : decode cX15_does 12 = .ok (.ifCond .lt 7, 3) := dk_155 0 7 (dk_at dksX15_does_0 12 rfl rfl)
theorem dX15_does_15 : decode cX15_does 15 = .ok (.iconst 1, 1) := dk_4 (dk_at dksX15_does_0 15 rfl rfl)
theorem dX15_does_16 : decode cX15_does 16 = .ok (.goto 4, 3) := dk_167 0 4 (dk_at dksX15_does_0 16 rfl rfl)
theorem dX15_does_19 : decode cX15_does 19 = .ok (.iconst 0, 1) := dk_3 (dk_at dksX15_does_0 19 rfl rfl)
theorem dX15_does_20 : decode cX15_does 20 = .ok (.ireturn, 1) := dk_172 (dk_at dksX15_does_0 20 rfl rfl)
theorem q187 : (Jvm.Cond.initialized "SortingLoop$Emptying") ∈ lw_all := lw_g (lw_at lw_m1 50 rfl) rfl
theorem q608 : (Jvm.Cond.selects "SortingLoop$Emptying" ({ cls := "java/lang/Object", name := "getClass", desc := "()Ljava/lang/Class;" } : Jvm.MethodName) ({ cls := "java/lang/Object", name := "getClass", desc := "()Ljava/lang/Class;" } : Jvm.MethodName)) ∈ lw_all := lw_g (lw_at lw_m2 231 rfl) rfl
theorem q1863 : (Jvm.Cond.instantiable "SortingLoop$Emptying" (2 : Nat)) ∈ lw_all := lw_g (lw_at lw_m8 46 rfl) rfl
theorem q1865 : (Jvm.Cond.instanceMethod ({ cls := "SortingLoop$Emptying", name := "<init>", desc := "([I)V" } : Jvm.MethodName)) ∈ lw_all := lw_g (lw_at lw_m8 48 rfl) rfl
theorem q1866 : (Jvm.Cond.code ({ cls := "SortingLoop$Emptying", name := "<init>", desc := "([I)V" } : Jvm.MethodName) prog_4_method_1_code (2 : Nat) (Option.none : Option Jvm.ClassFile.FieldType)) ∈ lw_all := lw_g (lw_at lw_m8 49 rfl) rfl
theorem q1867 : (Jvm.Cond.methodLink "SortingLoop$Emptying" (1 : Nat) ({ cls := "SortingLoop$Deed", name := "<init>", desc := "([I)V" } : Jvm.MethodName)) ∈ lw_all := lw_g (lw_at lw_m8 50 rfl) rfl
theorem q1868 : (Jvm.Cond.laysFinal "SortingLoop$Emptying" "SortingLoop$Deed" "first" "I") ∈ lw_all := lw_g (lw_at lw_m8 51 rfl) rfl
theorem q1869 : (Jvm.Cond.laysFinal "SortingLoop$Emptying" "SortingLoop$Deed" "second" "I") ∈ lw_all := lw_g (lw_at lw_m8 52 rfl) rfl
theorem q1870 : (Jvm.Cond.superclass "SortingLoop$Emptying" "SortingLoop$Deed") ∈ lw_all := lw_g (lw_at lw_m8 53 rfl) rfl
theorem q1961 : (Jvm.Cond.selects "SortingLoop$Emptying" ({ cls := "SortingLoop$Deed", name := "does", desc := "(LSortingLoop$Loop;)Z" } : Jvm.MethodName) ({ cls := "SortingLoop$Emptying", name := "does", desc := "(LSortingLoop$Loop;)Z" } : Jvm.MethodName)) ∈ lw_all := lw_g (lw_at lw_m8 144 rfl) rfl
theorem q1962 : (Jvm.Cond.instanceMethod ({ cls := "SortingLoop$Emptying", name := "does", desc := "(LSortingLoop$Loop;)Z" } : Jvm.MethodName)) ∈ lw_all := lw_g (lw_at lw_m8 145 rfl) rfl
theorem q1963 : (Jvm.Cond.code ({ cls := "SortingLoop$Emptying", name := "does", desc := "(LSortingLoop$Loop;)Z" } : Jvm.MethodName) prog_4_method_2_code (2 : Nat) (Option.some Jvm.ClassFile.FieldType.boolean)) ∈ lw_all := lw_g (lw_at lw_m8 146 rfl) rfl
theorem q1964 : (Jvm.Cond.methodLink "SortingLoop$Emptying" (7 : Nat) ({ cls := "SortingLoop$Emptying", name := "first", desc := "()I" } : Jvm.MethodName)) ∈ lw_all := lw_g (lw_at lw_m8 147 rfl) rfl
theorem q1965 : (Jvm.Cond.sameMethod "SortingLoop$Emptying" "SortingLoop$Deed" "first" "()I") ∈ lw_all := lw_g (lw_at lw_m8 148 rfl) rfl
theorem q1967 : (Jvm.Cond.selects "SortingLoop$Emptying" ({ cls := "SortingLoop$Emptying", name := "first", desc := "()I" } : Jvm.MethodName) ({ cls := "SortingLoop$Deed", name := "first", desc := "()I" } : Jvm.MethodName)) ∈ lw_all := lw_g (lw_at lw_m8 150 rfl) rfl
theorem q1970 : (Jvm.Cond.methodLink "SortingLoop$Emptying" (13 : Nat) ({ cls := "SortingLoop$Loop", name := "chute", desc := "(I)LSortingLoop$Chute;" } : Jvm.MethodName)) ∈ lw_all := lw_g (lw_at lw_m8 153 rfl) rfl
theorem q1971 : (Jvm.Cond.methodLink "SortingLoop$Emptying" (19 : Nat) ({ cls := "SortingLoop$Loop", name := "empties", desc := "(LSortingLoop$Chute;)I" } : Jvm.MethodName)) ∈ lw_all := lw_g (lw_at lw_m8 154 rfl) rfl
theorem q2209 : (Jvm.Cond.selects "SortingLoop$Emptying" ({ cls := "java/lang/Object", name := "equals", desc := "(Ljava/lang/Object;)Z" } : Jvm.MethodName) ({ cls := "java/lang/Object", name := "equals", desc := "(Ljava/lang/Object;)Z" } : Jvm.MethodName)) ∈ lw_all := lw_g (lw_at lw_m9 152 rfl) rfl
theorem q3350 : (Jvm.Cond.castable "SortingLoop$Emptying" "SortingLoop$Deed") ∈ lw_tbl := lw_at lw_m14 93 rfl
theorem q3384 : (Jvm.Cond.castable "SortingLoop$Emptying" "java/lang/Object") ∈ lw_tbl := lw_at lw_m14 127 rfl
theorem in_X15 : ∀ w ∈ wsX150, w ∈ lw_all := lw_in wsX150 [1868, 1869] (by decide +kernel) (by decide +kernel)

/-! SortingLoop$Opening -/
set_option maxRecDepth 100000
def RX16 : String := "SortingLoop$Opening"
def TX16 : u_T := fun k => match k with
  | 0 => ("SortingLoop$Deed", "first", "I", true)
  | _ => ("SortingLoop$Deed", "second", "I", true)
def tyX16 : Nat → FieldType := fun k => match k with
  | 0 => .int
  | _ => .int
abbrev wsX160 : List Cond := u_ws RX16 TX16 2
theorem nmX16 : ∀ a, a < 2 → ∀ b, b < 2 → a ≠ b → (TX16 a).2.1 ≠ (TX16 b).2.1 := by decide +kernel
theorem tyX16_ok : ∀ k, k < 2 → parseFieldDescriptor (TX16 k).2.2.1 = some (tyX16 k) := by decide +kernel
abbrev cX16_init : ByteArray := prog_7_method_1_code
def yX16_init : MethodName := ⟨RX16, "<init>", "([I)V"⟩
def dkwX16_init_0 : List UInt8 := [42, 43, 183, 0, 1, 177]
abbrev dktX16_init_0 : List UInt8 := dkwX16_init_0 ++ []
theorem dksX16_init_0 : cX16_init.data.toList.drop 0 = dktX16_init_0 := by decide +kernel
theorem dX16_init_0 : decode cX16_init 0 = .ok (.aload_n 0, 1) := dk_42 (dk_at dksX16_init_0 0 rfl rfl)
theorem dX16_init_1 : decode cX16_init 1 = .ok (.aload_n 1, 1) := dk_43 (dk_at dksX16_init_0 1 rfl rfl)
theorem dX16_init_2 : decode cX16_init 2 = .ok (.invokespecial 1, 3) := dk_183 0 1 (dk_at dksX16_init_0 2 rfl rfl)
theorem dX16_init_5 : decode cX16_init 5 = .ok (.return_, 1) := dk_177 (dk_at dksX16_init_0 5 rfl rfl)
abbrev cX16_does : ByteArray := prog_7_method_2_code
def yX16_does : MethodName := ⟨RX16, "does", "(LSortingLoop$Loop;)Z"⟩
def dkwX16_does_1 : List UInt8 := [182, 0, 22, 155, 0, 7, 4, 167, 0, 4, 3, 172]
abbrev dktX16_does_1 : List UInt8 := dkwX16_does_1 ++ []
def dkwX16_does_0 : List UInt8 := [43, 43, 42, 182, 0, 7, 182, 0, 13, 42, 182, 0, 19, 4, 160, 0, 7, 4, 167, 0, 4, 3]
abbrev dktX16_does_0 : List UInt8 := dkwX16_does_0 ++ dktX16_does_1
theorem dksX16_does_0 : cX16_does.data.toList.drop 0 = dktX16_does_0 := by decide +kernel
theorem dksX16_does_1 : cX16_does.data.toList.drop 22 = dktX16_does_1 := dk_seg dksX16_does_0 22 rfl rfl
theorem dX16_does_0 : decode cX16_does 0 = .ok (.aload_n 1, 1) := dk_43 (dk_at dksX16_does_0 0 rfl rfl)
theorem dX16_does_1 : decode cX16_does 1 = .ok (.aload_n 1, 1) := dk_43 (dk_at dksX16_does_0 1 rfl rfl)
theorem dX16_does_2 : decode cX16_does 2 = .ok (.aload_n 0, 1) := dk_42 (dk_at dksX16_does_0 2 rfl rfl)
theorem dX16_does_3 : decode cX16_does 3 = .ok (.invokevirtual 7, 3) := dk_182 0 7 (dk_at dksX16_does_0 3 rfl rfl)
theorem dX16_does_6 : decode cX16_does 6 = .ok (.invokevirtual 13, 3) := dk_182 0 13 (dk_at dksX16_does_0 6 rfl rfl)
theorem dX16_does_9 : decode cX16_does 9 = .ok (.aload_n 0, 1) := dk_42 (dk_at dksX16_does_0 9 rfl rfl)
theorem dX16_does_10 : decode cX16_does 10 = .ok (.invokevirtual 19, 3) := dk_182 0 19 (dk_at dksX16_does_0 10 rfl rfl)
theorem dX16_does_13 : decode cX16_does 13 = .ok (.iconst 1, 1) := dk_4 (dk_at dksX16_does_0 13 rfl rfl)
theorem dX16_does_14 : decode cX16_does 14 = .ok (.if_icmp .ne 7, 3) := dk_160 0 7 (dk_at dksX16_does_0 14 rfl rfl)
theorem dX16_does_17 : decode cX16_does 17 = .ok (.iconst 1, 1) := dk_4 (dk_at dksX16_does_0 17 rfl rfl)
theorem dX16_does_18 : decode cX16_does 18 = .ok (.goto 4, 3) := dk_167 0 4 (dk_at dksX16_does_0 18 rfl rfl)
theorem dX16_does_21 : decode cX16_does 21 = .ok (.iconst 0, 1) := dk_3 (dk_at dksX16_does_0 21 rfl rfl)
theorem dX16_does_22 : decode cX16_does 22 = .ok (.invokevirtual 22, 3) := dk_182 0 22 (dk_at dksX16_does_1 0 rfl rfl)
theorem dX16_does_25 : decode cX16_does 25 = .ok (.ifCond .lt 7, 3) := dk_155 0 7 (dk_at dksX16_does_1 3 rfl rfl)
theorem dX16_does_28 : decode cX16_does 28 = .ok (.iconst 1, 1) := dk_4 (dk_at dksX16_does_1 6 rfl rfl)
theorem dX16_does_29 : decode cX16_does 29 = .ok (.goto 4, 3) := dk_167 0 4 (dk_at dksX16_does_1 7 rfl rfl)
theorem dX16_does_32 : decode cX16_does 32 = .ok (.iconst 0, 1) := dk_3 (dk_at dksX16_does_1 10 rfl rfl)
theorem dX16_does_33 : decode cX16_does 33 = .ok (.ireturn, 1) := dk_172 (dk_at dksX16_does_1 11 rfl rfl)
theorem q188 : (Jvm.Cond.initialized "SortingLoop$Opening") ∈ lw_all := lw_g (lw_at lw_m1 51 rfl) rfl
theorem q610 : (Jvm.Cond.selects "SortingLoop$Opening" ({ cls := "java/lang/Object", name := "getClass", desc := "()Ljava/lang/Class;" } : Jvm.MethodName) ({ cls := "java/lang/Object", name := "getClass", desc := "()Ljava/lang/Class;" } : Jvm.MethodName)) ∈ lw_all := lw_g (lw_at lw_m2 233 rfl) rfl
theorem q1872 : (Jvm.Cond.instantiable "SortingLoop$Opening" (2 : Nat)) ∈ lw_all := lw_g (lw_at lw_m8 55 rfl) rfl
theorem q1874 : (Jvm.Cond.instanceMethod ({ cls := "SortingLoop$Opening", name := "<init>", desc := "([I)V" } : Jvm.MethodName)) ∈ lw_all := lw_g (lw_at lw_m8 57 rfl) rfl
theorem q1875 : (Jvm.Cond.code ({ cls := "SortingLoop$Opening", name := "<init>", desc := "([I)V" } : Jvm.MethodName) prog_7_method_1_code (2 : Nat) (Option.none : Option Jvm.ClassFile.FieldType)) ∈ lw_all := lw_g (lw_at lw_m8 58 rfl) rfl
theorem q1876 : (Jvm.Cond.methodLink "SortingLoop$Opening" (1 : Nat) ({ cls := "SortingLoop$Deed", name := "<init>", desc := "([I)V" } : Jvm.MethodName)) ∈ lw_all := lw_g (lw_at lw_m8 59 rfl) rfl
theorem q1877 : (Jvm.Cond.laysFinal "SortingLoop$Opening" "SortingLoop$Deed" "first" "I") ∈ lw_all := lw_g (lw_at lw_m8 60 rfl) rfl
theorem q1878 : (Jvm.Cond.laysFinal "SortingLoop$Opening" "SortingLoop$Deed" "second" "I") ∈ lw_all := lw_g (lw_at lw_m8 61 rfl) rfl
theorem q1879 : (Jvm.Cond.superclass "SortingLoop$Opening" "SortingLoop$Deed") ∈ lw_all := lw_g (lw_at lw_m8 62 rfl) rfl
theorem q1975 : (Jvm.Cond.selects "SortingLoop$Opening" ({ cls := "SortingLoop$Deed", name := "does", desc := "(LSortingLoop$Loop;)Z" } : Jvm.MethodName) ({ cls := "SortingLoop$Opening", name := "does", desc := "(LSortingLoop$Loop;)Z" } : Jvm.MethodName)) ∈ lw_all := lw_g (lw_at lw_m8 158 rfl) rfl
theorem q1976 : (Jvm.Cond.instanceMethod ({ cls := "SortingLoop$Opening", name := "does", desc := "(LSortingLoop$Loop;)Z" } : Jvm.MethodName)) ∈ lw_all := lw_g (lw_at lw_m8 159 rfl) rfl
theorem q1977 : (Jvm.Cond.code ({ cls := "SortingLoop$Opening", name := "does", desc := "(LSortingLoop$Loop;)Z" } : Jvm.MethodName) prog_7_method_2_code (2 : Nat) (Option.some Jvm.ClassFile.FieldType.boolean)) ∈ lw_all := lw_g (lw_at lw_m8 160 rfl) rfl
theorem q1978 : (Jvm.Cond.methodLink "SortingLoop$Opening" (7 : Nat) ({ cls := "SortingLoop$Opening", name := "first", desc := "()I" } : Jvm.MethodName)) ∈ lw_all := lw_g (lw_at lw_m8 161 rfl) rfl
theorem q1979 : (Jvm.Cond.sameMethod "SortingLoop$Opening" "SortingLoop$Deed" "first" "()I") ∈ lw_all := lw_g (lw_at lw_m8 162 rfl) rfl
theorem q1980 : (Jvm.Cond.selects "SortingLoop$Opening" ({ cls := "SortingLoop$Opening", name := "first", desc := "()I" } : Jvm.MethodName) ({ cls := "SortingLoop$Deed", name := "first", desc := "()I" } : Jvm.MethodName)) ∈ lw_all := lw_g (lw_at lw_m8 163 rfl) rfl
theorem q1981 : (Jvm.Cond.methodLink "SortingLoop$Opening" (13 : Nat) ({ cls := "SortingLoop$Loop", name := "chute", desc := "(I)LSortingLoop$Chute;" } : Jvm.MethodName)) ∈ lw_all := lw_g (lw_at lw_m8 164 rfl) rfl
theorem q1982 : (Jvm.Cond.methodLink "SortingLoop$Opening" (19 : Nat) ({ cls := "SortingLoop$Opening", name := "second", desc := "()I" } : Jvm.MethodName)) ∈ lw_all := lw_g (lw_at lw_m8 165 rfl) rfl
theorem q1983 : (Jvm.Cond.sameMethod "SortingLoop$Opening" "SortingLoop$Deed" "second" "()I") ∈ lw_all := lw_g (lw_at lw_m8 166 rfl) rfl
theorem q1985 : (Jvm.Cond.selects "SortingLoop$Opening" ({ cls := "SortingLoop$Opening", name := "second", desc := "()I" } : Jvm.MethodName) ({ cls := "SortingLoop$Deed", name := "second", desc := "()I" } : Jvm.MethodName)) ∈ lw_all := lw_g (lw_at lw_m8 168 rfl) rfl
theorem q1988 : (Jvm.Cond.methodLink "SortingLoop$Opening" (22 : Nat) ({ cls := "SortingLoop$Loop", name := "opens", desc := "(LSortingLoop$Chute;Z)I" } : Jvm.MethodName)) ∈ lw_all := lw_g (lw_at lw_m8 171 rfl) rfl
theorem q2211 : (Jvm.Cond.selects "SortingLoop$Opening" ({ cls := "java/lang/Object", name := "equals", desc := "(Ljava/lang/Object;)Z" } : Jvm.MethodName) ({ cls := "java/lang/Object", name := "equals", desc := "(Ljava/lang/Object;)Z" } : Jvm.MethodName)) ∈ lw_all := lw_g (lw_at lw_m9 154 rfl) rfl
theorem q3351 : (Jvm.Cond.castable "SortingLoop$Opening" "SortingLoop$Deed") ∈ lw_tbl := lw_at lw_m14 94 rfl
theorem q3385 : (Jvm.Cond.castable "SortingLoop$Opening" "java/lang/Object") ∈ lw_tbl := lw_at lw_m14 128 rfl
theorem in_X16 : ∀ w ∈ wsX160, w ∈ lw_all := lw_in wsX160 [1877, 1878] (by decide +kernel) (by decide +kernel)

/-! SortingLoop$Setting -/
set_option maxRecDepth 100000
def RX17 : String := "SortingLoop$Setting"
def TX17 : u_T := fun k => match k with
  | 0 => ("SortingLoop$Deed", "first", "I", true)
  | _ => ("SortingLoop$Deed", "second", "I", true)
def tyX17 : Nat → FieldType := fun k => match k with
  | 0 => .int
  | _ => .int
abbrev wsX170 : List Cond := u_ws RX17 TX17 2
theorem nmX17 : ∀ a, a < 2 → ∀ b, b < 2 → a ≠ b → (TX17 a).2.1 ≠ (TX17 b).2.1 := by decide +kernel
theorem tyX17_ok : ∀ k, k < 2 → parseFieldDescriptor (TX17 k).2.2.1 = some (tyX17 k) := by decide +kernel
abbrev cX17_init : ByteArray := prog_14_method_1_code
def yX17_init : MethodName := ⟨RX17, "<init>", "([I)V"⟩
def dkwX17_init_0 : List UInt8 := [42, 43, 183, 0, 1, 177]
abbrev dktX17_init_0 : List UInt8 := dkwX17_init_0 ++ []
theorem dksX17_init_0 : cX17_init.data.toList.drop 0 = dktX17_init_0 := by decide +kernel
theorem dX17_init_0 : decode cX17_init 0 = .ok (.aload_n 0, 1) := dk_42 (dk_at dksX17_init_0 0 rfl rfl)
theorem dX17_init_1 : decode cX17_init 1 = .ok (.aload_n 1, 1) := dk_43 (dk_at dksX17_init_0 1 rfl rfl)
theorem dX17_init_2 : decode cX17_init 2 = .ok (.invokespecial 1, 3) := dk_183 0 1 (dk_at dksX17_init_0 2 rfl rfl)
theorem dX17_init_5 : decode cX17_init 5 = .ok (.return_, 1) := dk_177 (dk_at dksX17_init_0 5 rfl rfl)
abbrev cX17_does : ByteArray := prog_14_method_2_code
def yX17_does : MethodName := ⟨RX17, "does", "(LSortingLoop$Loop;)Z"⟩
def dkwX17_does_0 : List UInt8 := [43, 42, 182, 0, 7, 42, 182, 0, 13, 182, 0, 16, 155, 0, 7, 4, 167, 0, 4, 3, 172]
abbrev dktX17_does_0 : List UInt8 := dkwX17_does_0 ++ []
theorem dksX17_does_0 : cX17_does.data.toList.drop 0 = dktX17_does_0 := by decide +kernel
theorem dX17_does_0 : decode cX17_does 0 = .ok (.aload_n 1, 1) := dk_43 (dk_at dksX17_does_0 0 rfl rfl)
theorem dX17_does_1 : decode cX17_does 1 = .ok (.aload_n 0, 1) := dk_42 (dk_at dksX17_does_0 1 rfl rfl)
theorem dX17_does_2 : decode cX17_does 2 = .ok (.invokevirtual 7, 3) := dk_182 0 7 (dk_at dksX17_does_0 2 rfl rfl)
theorem dX17_does_5 : decode cX17_does 5 = .ok (.aload_n 0, 1) := dk_42 (dk_at dksX17_does_0 5 rfl rfl)
theorem dX17_does_6 : decode cX17_does 6 = .ok (.invokevirtual 13, 3) := dk_182 0 13 (dk_at dksX17_does_0 6 rfl rfl)
theorem dX17_does_9 : decode cX17_does 9 = .ok (.invokevirtual 16, 3) := dk_182 0 16 (dk_at dksX17_does_0 9 rfl rfl)
theorem dX17_does_12 : decode cX17_does 12 = .ok (.ifCond .lt 7, 3) := dk_155 0 7 (dk_at dksX17_does_0 12 rfl rfl)
theorem dX17_does_15 : decode cX17_does 15 = .ok (.iconst 1, 1) := dk_4 (dk_at dksX17_does_0 15 rfl rfl)
theorem dX17_does_16 : decode cX17_does 16 = .ok (.goto 4, 3) := dk_167 0 4 (dk_at dksX17_does_0 16 rfl rfl)
theorem dX17_does_19 : decode cX17_does 19 = .ok (.iconst 0, 1) := dk_3 (dk_at dksX17_does_0 19 rfl rfl)
theorem dX17_does_20 : decode cX17_does 20 = .ok (.ireturn, 1) := dk_172 (dk_at dksX17_does_0 20 rfl rfl)
theorem q189 : (Jvm.Cond.initialized "SortingLoop$Setting") ∈ lw_all := lw_g (lw_at lw_m1 52 rfl) rfl
theorem q616 : (Jvm.Cond.selects "SortingLoop$Setting" ({ cls := "java/lang/Object", name := "getClass", desc := "()Ljava/lang/Class;" } : Jvm.MethodName) ({ cls := "java/lang/Object", name := "getClass", desc := "()Ljava/lang/Class;" } : Jvm.MethodName)) ∈ lw_all := lw_g (lw_at lw_m2 239 rfl) rfl
theorem q1885 : (Jvm.Cond.instantiable "SortingLoop$Setting" (2 : Nat)) ∈ lw_all := lw_g (lw_at lw_m8 68 rfl) rfl
theorem q1887 : (Jvm.Cond.instanceMethod ({ cls := "SortingLoop$Setting", name := "<init>", desc := "([I)V" } : Jvm.MethodName)) ∈ lw_all := lw_g (lw_at lw_m8 70 rfl) rfl
theorem q1888 : (Jvm.Cond.code ({ cls := "SortingLoop$Setting", name := "<init>", desc := "([I)V" } : Jvm.MethodName) prog_14_method_1_code (2 : Nat) (Option.none : Option Jvm.ClassFile.FieldType)) ∈ lw_all := lw_g (lw_at lw_m8 71 rfl) rfl
theorem q1889 : (Jvm.Cond.methodLink "SortingLoop$Setting" (1 : Nat) ({ cls := "SortingLoop$Deed", name := "<init>", desc := "([I)V" } : Jvm.MethodName)) ∈ lw_all := lw_g (lw_at lw_m8 72 rfl) rfl
theorem q1890 : (Jvm.Cond.laysFinal "SortingLoop$Setting" "SortingLoop$Deed" "first" "I") ∈ lw_all := lw_g (lw_at lw_m8 73 rfl) rfl
theorem q1891 : (Jvm.Cond.laysFinal "SortingLoop$Setting" "SortingLoop$Deed" "second" "I") ∈ lw_all := lw_g (lw_at lw_m8 74 rfl) rfl
theorem q1892 : (Jvm.Cond.superclass "SortingLoop$Setting" "SortingLoop$Deed") ∈ lw_all := lw_g (lw_at lw_m8 75 rfl) rfl
theorem q2016 : (Jvm.Cond.selects "SortingLoop$Setting" ({ cls := "SortingLoop$Deed", name := "does", desc := "(LSortingLoop$Loop;)Z" } : Jvm.MethodName) ({ cls := "SortingLoop$Setting", name := "does", desc := "(LSortingLoop$Loop;)Z" } : Jvm.MethodName)) ∈ lw_all := lw_g (lw_at lw_m8 199 rfl) rfl
theorem q2017 : (Jvm.Cond.instanceMethod ({ cls := "SortingLoop$Setting", name := "does", desc := "(LSortingLoop$Loop;)Z" } : Jvm.MethodName)) ∈ lw_all := lw_g (lw_at lw_m8 200 rfl) rfl
theorem q2018 : (Jvm.Cond.code ({ cls := "SortingLoop$Setting", name := "does", desc := "(LSortingLoop$Loop;)Z" } : Jvm.MethodName) prog_14_method_2_code (2 : Nat) (Option.some Jvm.ClassFile.FieldType.boolean)) ∈ lw_all := lw_g (lw_at lw_m8 201 rfl) rfl
theorem q2019 : (Jvm.Cond.methodLink "SortingLoop$Setting" (7 : Nat) ({ cls := "SortingLoop$Setting", name := "first", desc := "()I" } : Jvm.MethodName)) ∈ lw_all := lw_g (lw_at lw_m8 202 rfl) rfl
theorem q2020 : (Jvm.Cond.sameMethod "SortingLoop$Setting" "SortingLoop$Deed" "first" "()I") ∈ lw_all := lw_g (lw_at lw_m8 203 rfl) rfl
theorem q2021 : (Jvm.Cond.selects "SortingLoop$Setting" ({ cls := "SortingLoop$Setting", name := "first", desc := "()I" } : Jvm.MethodName) ({ cls := "SortingLoop$Deed", name := "first", desc := "()I" } : Jvm.MethodName)) ∈ lw_all := lw_g (lw_at lw_m8 204 rfl) rfl
theorem q2022 : (Jvm.Cond.methodLink "SortingLoop$Setting" (13 : Nat) ({ cls := "SortingLoop$Setting", name := "second", desc := "()I" } : Jvm.MethodName)) ∈ lw_all := lw_g (lw_at lw_m8 205 rfl) rfl
theorem q2023 : (Jvm.Cond.sameMethod "SortingLoop$Setting" "SortingLoop$Deed" "second" "()I") ∈ lw_all := lw_g (lw_at lw_m8 206 rfl) rfl
theorem q2024 : (Jvm.Cond.selects "SortingLoop$Setting" ({ cls := "SortingLoop$Setting", name := "second", desc := "()I" } : Jvm.MethodName) ({ cls := "SortingLoop$Deed", name := "second", desc := "()I" } : Jvm.MethodName)) ∈ lw_all := lw_g (lw_at lw_m8 207 rfl) rfl
theorem q2025 : (Jvm.Cond.methodLink "SortingLoop$Setting" (16 : Nat) ({ cls := "SortingLoop$Loop", name := "sets", desc := "(II)I" } : Jvm.MethodName)) ∈ lw_all := lw_g (lw_at lw_m8 208 rfl) rfl
theorem q2217 : (Jvm.Cond.selects "SortingLoop$Setting" ({ cls := "java/lang/Object", name := "equals", desc := "(Ljava/lang/Object;)Z" } : Jvm.MethodName) ({ cls := "java/lang/Object", name := "equals", desc := "(Ljava/lang/Object;)Z" } : Jvm.MethodName)) ∈ lw_all := lw_g (lw_at lw_m9 160 rfl) rfl
theorem q3353 : (Jvm.Cond.castable "SortingLoop$Setting" "SortingLoop$Deed") ∈ lw_tbl := lw_at lw_m14 96 rfl
theorem q3386 : (Jvm.Cond.castable "SortingLoop$Setting" "java/lang/Object") ∈ lw_tbl := lw_at lw_m14 129 rfl
theorem in_X17 : ∀ w ∈ wsX170, w ∈ lw_all := lw_in wsX170 [1890, 1891] (by decide +kernel) (by decide +kernel)

/-! SortingLoop$Numbered -/
set_option maxRecDepth 100000
def RX18 : String := "SortingLoop$Numbered"
abbrev cX18_isAhead : ByteArray := prog_6_method_3_code
def yX18_isAhead : MethodName := ⟨RX18, "isAhead", "(LSortingLoop$Numbered;)Z"⟩
def dkwX18_isAhead_0 : List UInt8 := [42, 185, 0, 3, 1, 0, 43, 185, 0, 3, 1, 0, 162, 0, 7, 4, 167, 0, 4, 3, 172]
abbrev dktX18_isAhead_0 : List UInt8 := dkwX18_isAhead_0 ++ []
theorem dksX18_isAhead_0 : cX18_isAhead.data.toList.drop 0 = dktX18_isAhead_0 := by decide +kernel
theorem dX18_isAhead_0 : decode cX18_isAhead 0 = .ok (.aload_n 0, 1) := dk_42 (dk_at dksX18_isAhead_0 0 rfl rfl)
theorem dX18_isAhead_1 : decode cX18_isAhead 1 = .ok (.invokeinterface 3 1, 5) := by decide +kernel
theorem dX18_isAhead_6 : decode cX18_isAhead 6 = .ok (.aload_n 1, 1) := dk_43 (dk_at dksX18_isAhead_0 6 rfl rfl)
theorem dX18_isAhead_7 : decode cX18_isAhead 7 = .ok (.invokeinterface 3 1, 5) := by decide +kernel
theorem dX18_isAhead_12 : decode cX18_isAhead 12 = .ok (.if_icmp .ge 7, 3) := dk_162 0 7 (dk_at dksX18_isAhead_0 12 rfl rfl)
theorem dX18_isAhead_15 : decode cX18_isAhead 15 = .ok (.iconst 1, 1) := dk_4 (dk_at dksX18_isAhead_0 15 rfl rfl)
theorem dX18_isAhead_16 : decode cX18_isAhead 16 = .ok (.goto 4, 3) := dk_167 0 4 (dk_at dksX18_isAhead_0 16 rfl rfl)
theorem dX18_isAhead_19 : decode cX18_isAhead 19 = .ok (.iconst 0, 1) := dk_3 (dk_at dksX18_isAhead_0 19 rfl rfl)
theorem dX18_isAhead_20 : decode cX18_isAhead 20 = .ok (.ireturn, 1) := dk_172 (dk_at dksX18_isAhead_0 20 rfl rfl)
abbrev cX18_of : ByteArray := prog_6_method_2_code
def yX18_of : MethodName := ⟨RX18, "of", "(LSortingLoop$Numbered;)I"⟩
def dkwX18_of_0 : List UInt8 := [42, 199, 0, 7, 2, 167, 0, 9, 42, 185, 0, 3, 1, 0, 172]
abbrev dktX18_of_0 : List UInt8 := dkwX18_of_0 ++ []
theorem dksX18_of_0 : cX18_of.data.toList.drop 0 = dktX18_of_0 := by decide +kernel
theorem dX18_of_0 : decode cX18_of 0 = .ok (.aload_n 0, 1) := dk_42 (dk_at dksX18_of_0 0 rfl rfl)
theorem dX18_of_1 : decode cX18_of 1 = .ok (.ifnonnull 7, 3) := dk_199 0 7 (dk_at dksX18_of_0 1 rfl rfl)
theorem dX18_of_4 : decode cX18_of 4 = .ok (.iconst (-1), 1) := dk_2 (dk_at dksX18_of_0 4 rfl rfl)
theorem dX18_of_5 : decode cX18_of 5 = .ok (.goto 9, 3) := dk_167 0 9 (dk_at dksX18_of_0 5 rfl rfl)
theorem dX18_of_8 : decode cX18_of 8 = .ok (.aload_n 0, 1) := dk_42 (dk_at dksX18_of_0 8 rfl rfl)
theorem dX18_of_9 : decode cX18_of 9 = .ok (.invokeinterface 3 1, 5) := by decide +kernel
theorem dX18_of_14 : decode cX18_of 14 = .ok (.ireturn, 1) := dk_172 (dk_at dksX18_of_0 14 rfl rfl)
theorem q192 : (Jvm.Cond.initialized "SortingLoop$Numbered") ∈ lw_all := lw_g (lw_at lw_m1 55 rfl) rfl
theorem q2244 : (Jvm.Cond.declares ({ cls := "SortingLoop$Numbered", name := "isAhead", desc := "(LSortingLoop$Numbered;)Z" } : Jvm.MethodName)) ∈ lw_tbl := lw_at lw_m9 187 rfl
theorem q2246 : (Jvm.Cond.instanceMethod ({ cls := "SortingLoop$Numbered", name := "isAhead", desc := "(LSortingLoop$Numbered;)Z" } : Jvm.MethodName)) ∈ lw_all := lw_g (lw_at lw_m9 189 rfl) rfl
theorem q2247 : (Jvm.Cond.publicMethod ({ cls := "SortingLoop$Numbered", name := "isAhead", desc := "(LSortingLoop$Numbered;)Z" } : Jvm.MethodName)) ∈ lw_tbl := lw_at lw_m9 190 rfl
theorem q2248 : (Jvm.Cond.code ({ cls := "SortingLoop$Numbered", name := "isAhead", desc := "(LSortingLoop$Numbered;)Z" } : Jvm.MethodName) prog_6_method_3_code (2 : Nat) (Option.some Jvm.ClassFile.FieldType.boolean)) ∈ lw_all := lw_g (lw_at lw_m9 191 rfl) rfl
theorem q2249 : (Jvm.Cond.interfaceEntry "SortingLoop$Numbered" (3 : Nat)) ∈ lw_tbl := lw_at lw_m9 192 rfl
theorem q2250 : (Jvm.Cond.methodLink "SortingLoop$Numbered" (3 : Nat) ({ cls := "SortingLoop$Numbered", name := "number", desc := "()I" } : Jvm.MethodName)) ∈ lw_all := lw_g (lw_at lw_m9 193 rfl) rfl
theorem q2251 : (Jvm.Cond.interfaceMethod "SortingLoop$Numbered" "SortingLoop$Numbered" "number" "()I") ∈ lw_tbl := lw_at lw_m9 194 rfl
theorem q2252 : (Jvm.Cond.declares ({ cls := "SortingLoop$Numbered", name := "number", desc := "()I" } : Jvm.MethodName)) ∈ lw_tbl := lw_at lw_m9 195 rfl
theorem q2440 : (Jvm.Cond.static ({ cls := "SortingLoop$Numbered", name := "of", desc := "(LSortingLoop$Numbered;)I" } : Jvm.MethodName)) ∈ lw_all := lw_g (lw_at lw_m10 143 rfl) rfl
theorem q2441 : (Jvm.Cond.code ({ cls := "SortingLoop$Numbered", name := "of", desc := "(LSortingLoop$Numbered;)I" } : Jvm.MethodName) prog_6_method_2_code (1 : Nat) (Option.some Jvm.ClassFile.FieldType.int)) ∈ lw_all := lw_g (lw_at lw_m10 144 rfl) rfl

/-! SortingLoop$Loop -/
set_option maxRecDepth 100000
def RX2 : String := "SortingLoop$Loop"
def TX2 : u_T := fun k => match k with
  | 0 => ("SortingLoop$Loop", "cells", "I", true)
  | 1 => ("SortingLoop$Loop", "in", "I", true)
  | 2 => ("SortingLoop$Loop", "scanners", "[Z", true)
  | 3 => ("SortingLoop$Loop", "chutes", "Ljava/util/List;", true)
  | 4 => ("SortingLoop$Loop", "parcels", "Ljava/util/List;", true)
  | 5 => ("SortingLoop$Loop", "ring", "LSortingLoop$Places;", true)
  | 6 => ("SortingLoop$Loop", "accounts", "[I", true)
  | 7 => ("SortingLoop$Loop", "tick", "I", false)
  | _ => ("SortingLoop$Loop", "rounds", "I", false)
def tyX2 : Nat → FieldType := fun k => match k with
  | 0 => .int
  | 1 => .int
  | 2 => .array .boolean
  | 3 => .object "java/util/List"
  | 4 => .object "java/util/List"
  | 5 => .object "SortingLoop$Places"
  | 6 => .array .int
  | 7 => .int
  | _ => .int
abbrev wsX20 : List Cond := u_ws RX2 TX2 9
theorem nmX2 : ∀ a, a < 9 → ∀ b, b < 9 → a ≠ b → (TX2 a).2.1 ≠ (TX2 b).2.1 := by decide +kernel
theorem tyX2_ok : ∀ k, k < 9 → parseFieldDescriptor (TX2 k).2.2.1 = some (tyX2 k) := by decide +kernel
abbrev cX2_init : ByteArray := prog_5_method_1_code
def yX2_init : MethodName := ⟨RX2, "<init>", "(II)V"⟩
def dkwX2_init_3 : List UInt8 := [177]
abbrev dktX2_init_3 : List UInt8 := dkwX2_init_3 ++ []
def dkwX2_init_2 : List UInt8 := [42, 28, 181, 0, 34, 42, 27, 188, 4, 181, 0, 37, 42, 187, 0, 41, 89, 27, 183, 0, 43, 181, 0, 44]
abbrev dktX2_init_2 : List UInt8 := dkwX2_init_2 ++ dktX2_init_3
def dkwX2_init_1 : List UInt8 := [183, 0, 11, 181, 0, 20, 42, 16, 12, 188, 10, 181, 0, 23, 42, 6, 181, 0, 27, 42, 27, 181, 0, 31]
abbrev dktX2_init_1 : List UInt8 := dkwX2_init_1 ++ dktX2_init_2
def dkwX2_init_0 : List UInt8 := [42, 183, 0, 3, 42, 187, 0, 9, 89, 16, 6, 183, 0, 11, 181, 0, 14, 42, 187, 0, 9, 89, 16, 40]
abbrev dktX2_init_0 : List UInt8 := dkwX2_init_0 ++ dktX2_init_1
theorem dksX2_init_0 : cX2_init.data.toList.drop 0 = dktX2_init_0 := by decide +kernel
theorem dksX2_init_1 : cX2_init.data.toList.drop 24 = dktX2_init_1 := dk_seg dksX2_init_0 24 rfl rfl
theorem dksX2_init_2 : cX2_init.data.toList.drop 48 = dktX2_init_2 := dk_seg dksX2_init_1 24 rfl rfl
theorem dksX2_init_3 : cX2_init.data.toList.drop 72 = dktX2_init_3 := dk_seg dksX2_init_2 24 rfl rfl
theorem dX2_init_0 : decode cX2_init 0 = .ok (.aload_n 0, 1) := dk_42 (dk_at dksX2_init_0 0 rfl rfl)
theorem dX2_init_1 : decode cX2_init 1 = .ok (.invokespecial 3, 3) := dk_183 0 3 (dk_at dksX2_init_0 1 rfl rfl)
theorem dX2_init_4 : decode cX2_init 4 = .ok (.aload_n 0, 1) := dk_42 (dk_at dksX2_init_0 4 rfl rfl)
theorem dX2_init_5 : decode cX2_init 5 = .ok (.new 9, 3) := dk_187 0 9 (dk_at dksX2_init_0 5 rfl rfl)
theorem dX2_init_8 : decode cX2_init 8 = .ok (.dup, 1) := dk_89 (dk_at dksX2_init_0 8 rfl rfl)
theorem dX2_init_9 : decode cX2_init 9 = .ok (.bipush 6, 2) := dk_16 6 (dk_at dksX2_init_0 9 rfl rfl)
theorem dX2_init_11 : decode cX2_init 11 = .ok (.invokespecial 11, 3) := dk_183 0 11 (dk_at dksX2_init_0 11 rfl rfl)
theorem dX2_init_14 : decode cX2_init 14 = .ok (.putfield 14, 3) := dk_181 0 14 (dk_at dksX2_init_0 14 rfl rfl)
theorem dX2_init_17 : decode cX2_init 17 = .ok (.aload_n 0, 1) := dk_42 (dk_at dksX2_init_0 17 rfl rfl)
theorem dX2_init_18 : decode cX2_init 18 = .ok (.new 9, 3) := dk_187 0 9 (dk_at dksX2_init_0 18 rfl rfl)
theorem dX2_init_21 : decode cX2_init 21 = .ok (.dup, 1) := dk_89 (dk_at dksX2_init_0 21 rfl rfl)
theorem dX2_init_22 : decode cX2_init 22 = .ok (.bipush 40, 2) := dk_16 40 (dk_at dksX2_init_0 22 rfl rfl)
theorem dX2_init_24 : decode cX2_init 24 = .ok (.invokespecial 11, 3) := dk_183 0 11 (dk_at dksX2_init_1 0 rfl rfl)
theorem dX2_init_27 : decode cX2_init 27 = .ok (.putfield 20, 3) := dk_181 0 20 (dk_at dksX2_init_1 3 rfl rfl)
theorem dX2_init_30 : decode cX2_init 30 = .ok (.aload_n 0, 1) := dk_42 (dk_at dksX2_init_1 6 rfl rfl)
theorem dX2_init_31 : decode cX2_init 31 = .ok (.bipush 12, 2) := dk_16 12 (dk_at dksX2_init_1 7 rfl rfl)
theorem dX2_init_33 : decode cX2_init 33 = .ok (.newarray .int, 2) := dk_188_10 (dk_at dksX2_init_1 9 rfl rfl)
theorem dX2_init_35 : decode cX2_init 35 = .ok (.putfield 23, 3) := dk_181 0 23 (dk_at dksX2_init_1 11 rfl rfl)
theorem dX2_init_38 : decode cX2_init 38 = .ok (.aload_n 0, 1) := dk_42 (dk_at dksX2_init_1 14 rfl rfl)
theorem dX2_init_39 : decode cX2_init 39 = .ok (.iconst 3, 1) := dk_6 (dk_at dksX2_init_1 15 rfl rfl)
theorem dX2_init_40 : decode cX2_init 40 = .ok (.putfield 27, 3) := dk_181 0 27 (dk_at dksX2_init_1 16 rfl rfl)
theorem dX2_init_43 : decode cX2_init 43 = .ok (.aload_n 0, 1) := dk_42 (dk_at dksX2_init_1 19 rfl rfl)
theorem dX2_init_44 : decode cX2_init 44 = .ok (.iload_n 1, 1) := dk_27 (dk_at dksX2_init_1 20 rfl rfl)
theorem dX2_init_45 : decode cX2_init 45 = .ok (.putfield 31, 3) := dk_181 0 31 (dk_at dksX2_init_1 21 rfl rfl)
theorem dX2_init_48 : decode cX2_init 48 = .ok (.aload_n 0, 1) := dk_42 (dk_at dksX2_init_2 0 rfl rfl)
theorem dX2_init_49 : decode cX2_init 49 = .ok (.iload_n 2, 1) := dk_28 (dk_at dksX2_init_2 1 rfl rfl)
theorem dX2_init_50 : decode cX2_init 50 = .ok (.putfield 34, 3) := dk_181 0 34 (dk_at dksX2_init_2 2 rfl rfl)
theorem dX2_init_53 : decode cX2_init 53 = .ok (.aload_n 0, 1) := dk_42 (dk_at dksX2_init_2 5 rfl rfl)
theorem dX2_init_54 : decode cX2_init 54 = .ok (.iload_n 1, 1) := dk_27 (dk_at dksX2_init_2 6 rfl rfl)
theorem dX2_init_55 : decode cX2_init 55 = .ok (.newarray .boolean, 2) := dk_188_4 (dk_at dksX2_init_2 7 rfl rfl)
theorem dX2_init_57 : decode cX2_init 57 = .ok (.putfield 37, 3) := dk_181 0 37 (dk_at dksX2_init_2 9 rfl rfl)
theorem dX2_init_60 : decode cX2_init 60 = .ok (.aload_n 0, 1) := dk_42 (dk_at dksX2_init_2 12 rfl rfl)
theorem dX2_init_61 : decode cX2_init 61 = .ok (.new 41, 3) := dk_187 0 41 (dk_at dksX2_init_2 13 rfl rfl)
theorem dX2_init_64 : decode cX2_init 64 = .ok (.dup, 1) := dk_89 (dk_at dksX2_init_2 16 rfl rfl)
theorem dX2_init_65 : decode cX2_init 65 = .ok (.iload_n 1, 1) := dk_27 (dk_at dksX2_init_2 17 rfl rfl)
theorem dX2_init_66 : decode cX2_init 66 = .ok (.invokespecial 43, 3) := dk_183 0 43 (dk_at dksX2_init_2 18 rfl rfl)
theorem dX2_init_69 : decode cX2_init 69 = .ok (.putfield 44, 3) := dk_181 0 44 (dk_at dksX2_init_2 21 rfl rfl)
theorem dX2_init_72 : decode cX2_init 72 = .ok (.return_, 1) := dk_177 (dk_at dksX2_init_3 0 rfl rfl)
abbrev cX2_twin : ByteArray := prog_5_method_2_code
def yX2_twin : MethodName := ⟨RX2, "twin", "()LSortingLoop$Loop;"⟩
def dkwX2_twin_3 : List UInt8 := [182, 0, 59, 183, 0, 63, 185, 0, 66, 2, 0, 87, 132, 2, 1, 167, 255, 218, 43, 42, 182, 0, 70, 176]
abbrev dktX2_twin_3 : List UInt8 := dkwX2_twin_3 ++ []
def dkwX2_twin_2 : List UInt8 := [42, 180, 0, 14, 185, 0, 51, 1, 0, 162, 0, 31, 43, 180, 0, 14, 187, 0, 57, 89, 42, 28]
abbrev dktX2_twin_2 : List UInt8 := dkwX2_twin_2 ++ dktX2_twin_3
def dkwX2_twin_1 : List UInt8 := [162, 0, 21, 43, 180, 0, 37, 28, 42, 180, 0, 37, 28, 51, 84, 132, 2, 1, 167, 255, 233, 3, 61, 28]
abbrev dktX2_twin_1 : List UInt8 := dkwX2_twin_1 ++ dktX2_twin_2
def dkwX2_twin_0 : List UInt8 := [187, 0, 15, 89, 42, 180, 0, 31, 42, 180, 0, 34, 183, 0, 48, 76, 3, 61, 28, 42, 180, 0, 31]
abbrev dktX2_twin_0 : List UInt8 := dkwX2_twin_0 ++ dktX2_twin_1
theorem dksX2_twin_0 : cX2_twin.data.toList.drop 0 = dktX2_twin_0 := by decide +kernel
theorem dksX2_twin_1 : cX2_twin.data.toList.drop 23 = dktX2_twin_1 := dk_seg dksX2_twin_0 23 rfl rfl
theorem dksX2_twin_2 : cX2_twin.data.toList.drop 47 = dktX2_twin_2 := dk_seg dksX2_twin_1 24 rfl rfl
theorem dksX2_twin_3 : cX2_twin.data.toList.drop 69 = dktX2_twin_3 := dk_seg dksX2_twin_2 22 rfl rfl
theorem dX2_twin_0 : decode cX2_twin 0 = .ok (.new 15, 3) := dk_187 0 15 (dk_at dksX2_twin_0 0 rfl rfl)
theorem dX2_twin_3 : decode cX2_twin 3 = .ok (.dup, 1) := dk_89 (dk_at dksX2_twin_0 3 rfl rfl)
theorem dX2_twin_4 : decode cX2_twin 4 = .ok (.aload_n 0, 1) := dk_42 (dk_at dksX2_twin_0 4 rfl rfl)
theorem dX2_twin_5 : decode cX2_twin 5 = .ok (.getfield 31, 3) := dk_180 0 31 (dk_at dksX2_twin_0 5 rfl rfl)
theorem dX2_twin_8 : decode cX2_twin 8 = .ok (.aload_n 0, 1) := dk_42 (dk_at dksX2_twin_0 8 rfl rfl)
theorem dX2_twin_9 : decode cX2_twin 9 = .ok (.getfield 34, 3) := dk_180 0 34 (dk_at dksX2_twin_0 9 rfl rfl)
theorem dX2_twin_12 : decode cX2_twin 12 = .ok (.invokespecial 48, 3) := dk_183 0 48 (dk_at dksX2_twin_0 12 rfl rfl)
theorem dX2_twin_15 : decode cX2_twin 15 = .ok (.astore_n 1, 1) := dk_76 (dk_at dksX2_twin_0 15 rfl rfl)
theorem dX2_twin_16 : decode cX2_twin 16 = .ok (.iconst 0, 1) := dk_3 (dk_at dksX2_twin_0 16 rfl rfl)
theorem dX2_twin_17 : decode cX2_twin 17 = .ok (.istore_n 2, 1) := dk_61 (dk_at dksX2_twin_0 17 rfl rfl)
theorem dX2_twin_18 : decode cX2_twin 18 = .ok (.iload_n 2, 1) := dk_28 (dk_at dksX2_twin_0 18 rfl rfl)
theorem dX2_twin_19 : decode cX2_twin 19 = .ok (.aload_n 0, 1) := dk_42 (dk_at dksX2_twin_0 19 rfl rfl)
theorem dX2_twin_20 : decode cX2_twin 20 = .ok (.getfield 31, 3) := dk_180 0 31 (dk_at dksX2_twin_0 20 rfl rfl)
theorem dX2_twin_23 : decode cX2_twin 23 = .ok (.if_icmp .ge 21, 3) := dk_162 0 21 (dk_at dksX2_twin_1 0 rfl rfl)
theorem dX2_twin_26 : decode cX2_twin 26 = .ok (.aload_n 1, 1) := dk_43 (dk_at dksX2_twin_1 3 rfl rfl)
theorem dX2_twin_27 : decode cX2_twin 27 = .ok (.getfield 37, 3) := dk_180 0 37 (dk_at dksX2_twin_1 4 rfl rfl)
theorem dX2_twin_30 : decode cX2_twin 30 = .ok (.iload_n 2, 1) := dk_28 (dk_at dksX2_twin_1 7 rfl rfl)
theorem dX2_twin_31 : decode cX2_twin 31 = .ok (.aload_n 0, 1) := dk_42 (dk_at dksX2_twin_1 8 rfl rfl)
theorem dX2_twin_32 : decode cX2_twin 32 = .ok (.getfield 37, 3) := dk_180 0 37 (dk_at dksX2_twin_1 9 rfl rfl)
theorem dX2_twin_35 : decode cX2_twin 35 = .ok (.iload_n 2, 1) := dk_28 (dk_at dksX2_twin_1 12 rfl rfl)
theorem dX2_twin_36 : decode cX2_twin 36 = .ok (.baload, 1) := dk_51 (dk_at dksX2_twin_1 13 rfl rfl)
theorem dX2_twin_37 : decode cX2_twin 37 = .ok (.bastore, 1) := dk_84 (dk_at dksX2_twin_1 14 rfl rfl)
theorem dX2_twin_38 : decode cX2_twin 38 = .ok (.iinc 2 1, 3) := dk_132 2 1 (dk_at dksX2_twin_1 15 rfl rfl)
theorem dX2_twin_41 : decode cX2_twin 41 = .ok (.goto (-23), 3) := dk_167 255 233 (dk_at dksX2_twin_1 18 rfl rfl)
theorem dX2_twin_44 : decode cX2_twin 44 = .ok (.iconst 0, 1) := dk_3 (dk_at dksX2_twin_1 21 rfl rfl)
theorem dX2_twin_45 : decode cX2_twin 45 = .ok (.istore_n 2, 1) := dk_61 (dk_at dksX2_twin_1 22 rfl rfl)
theorem dX2_twin_46 : decode cX2_twin 46 = .ok (.iload_n 2, 1) := dk_28 (dk_at dksX2_twin_1 23 rfl rfl)
theorem dX2_twin_47 : decode cX2_twin 47 = .ok (.aload_n 0, 1) := dk_42 (dk_at dksX2_twin_2 0 rfl rfl)
theorem dX2_twin_48 : decode cX2_twin 48 = .ok (.getfield 14, 3) := dk_180 0 14 (dk_at dksX2_twin_2 1 rfl rfl)
theorem dX2_twin_51 : decode cX2_twin 51 = .ok (.invokeinterface 51 1, 5) := by decide +kernel
theorem dX2_twin_56 : decode cX2_twin 56 = .ok (.if_icmp .ge 31, 3) := dk_162 0 31 (dk_at dksX2_twin_2 9 rfl rfl)
theorem dX2_twin_59 : decode cX2_twin 59 = .ok (.aload_n 1, 1) := dk_43 (dk_at dksX2_twin_2 12 rfl rfl)
theorem dX2_twin_60 : decode cX2_twin 60 = .ok (.getfield 14, 3) := dk_180 0 14 (dk_at dksX2_twin_2 13 rfl rfl)
theorem dX2_twin_63 : decode cX2_twin 63 = .ok (.new 57, 3) := dk_187 0 57 (dk_at dksX2_twin_2 16 rfl rfl)
theorem dX2_twin_66 : decode cX2_twin 66 = .ok (.dup, 1) := dk_89 (dk_at dksX2_twin_2 19 rfl rfl)
theorem dX2_twin_67 : decode cX2_twin 67 = .ok (.aload_n 0, 1) := dk_42 (dk_at dksX2_twin_2 20 rfl rfl)
theorem dX2_twin_68 : decode cX2_twin 68 = .ok (.iload_n 2, 1) := dk_28 (dk_at dksX2_twin_2 21 rfl rfl)
theorem dX2_twin_69 : decode cX2_twin 69 = .ok (.invokevirtual 59, 3) := dk_182 0 59 (dk_at dksX2_twin_3 0 rfl rfl)
theorem dX2_twin_72 : decode cX2_twin 72 = .ok (.invokespecial 63, 3) := dk_183 0 63 (dk_at dksX2_twin_3 3 rfl rfl)
theorem dX2_twin_75 : decode cX2_twin 75 = .ok (.invokeinterface 66 2, 5) := by decide +kernel
theorem dX2_twin_80 : decode cX2_twin 80 = .ok (.pop, 1) := dk_87 (dk_at dksX2_twin_3 11 rfl rfl)
theorem dX2_twin_81 : decode cX2_twin 81 = .ok (.iinc 2 1, 3) := dk_132 2 1 (dk_at dksX2_twin_3 12 rfl rfl)
theorem dX2_twin_84 : decode cX2_twin 84 = .ok (.goto (-38), 3) := dk_167 255 218 (dk_at dksX2_twin_3 15 rfl rfl)
theorem dX2_twin_87 : decode cX2_twin 87 = .ok (.aload_n 1, 1) := dk_43 (dk_at dksX2_twin_3 18 rfl rfl)
theorem dX2_twin_88 : decode cX2_twin 88 = .ok (.aload_n 0, 1) := dk_42 (dk_at dksX2_twin_3 19 rfl rfl)
theorem dX2_twin_89 : decode cX2_twin 89 = .ok (.invokevirtual 70, 3) := dk_182 0 70 (dk_at dksX2_twin_3 20 rfl rfl)
theorem dX2_twin_92 : decode cX2_twin 92 = .ok (.areturn, 1) := dk_176 (dk_at dksX2_twin_3 23 rfl rfl)
abbrev cX2_chute : ByteArray := prog_5_method_5_code
def yX2_chute : MethodName := ⟨RX2, "chute", "(I)LSortingLoop$Chute;"⟩
def dkwX2_chute_0 : List UInt8 := [42, 180, 0, 14, 27, 185, 0, 160, 2, 0, 192, 0, 57, 176]
abbrev dktX2_chute_0 : List UInt8 := dkwX2_chute_0 ++ []
theorem dksX2_chute_0 : cX2_chute.data.toList.drop 0 = dktX2_chute_0 := by decide +kernel
theorem dX2_chute_0 : decode cX2_chute 0 = .ok (.aload_n 0, 1) := dk_42 (dk_at dksX2_chute_0 0 rfl rfl)
theorem dX2_chute_1 : decode cX2_chute 1 = .ok (.getfield 14, 3) := dk_180 0 14 (dk_at dksX2_chute_0 1 rfl rfl)
theorem dX2_chute_4 : decode cX2_chute 4 = .ok (.iload_n 1, 1) := dk_27 (dk_at dksX2_chute_0 4 rfl rfl)
theorem dX2_chute_5 : decode cX2_chute 5 = .ok (.invokeinterface 160 2, 5) := by decide +kernel
theorem dX2_chute_10 : decode cX2_chute 10 = .ok (.checkcast 57, 3) := dk_192 0 57 (dk_at dksX2_chute_0 10 rfl rfl)
theorem dX2_chute_13 : decode cX2_chute 13 = .ok (.areturn, 1) := dk_176 (dk_at dksX2_chute_0 13 rfl rfl)
abbrev cX2_takes : ByteArray := prog_5_method_3_code
def yX2_takes : MethodName := ⟨RX2, "takes", "(LSortingLoop$Loop;)LSortingLoop$Loop;"⟩
def dkwX2_takes_11 : List UInt8 := [42, 43, 180, 0, 122, 181, 0, 122, 42, 43, 180, 0, 27, 181, 0, 27, 42, 176]
abbrev dktX2_takes_11 : List UInt8 := dkwX2_takes_11 ++ []
def dkwX2_takes_10 : List UInt8 := [182, 0, 112, 132, 2, 1, 167, 255, 226, 43, 180, 0, 23, 3, 42, 180, 0, 23, 3, 16, 12, 184, 0, 116]
abbrev dktX2_takes_10 : List UInt8 := dkwX2_takes_10 ++ dktX2_takes_11
def dkwX2_takes_9 : List UInt8 := [42, 180, 0, 14, 185, 0, 51, 1, 0, 162, 0, 23, 42, 42, 28, 182, 0, 59, 43, 28, 182, 0, 59]
abbrev dktX2_takes_9 : List UInt8 := dkwX2_takes_9 ++ dktX2_takes_10
def dkwX2_takes_8 : List UInt8 := [28, 182, 0, 78, 180, 0, 105, 42, 28, 182, 0, 78, 182, 0, 108, 132, 2, 1, 167, 255, 209, 3, 61, 28]
abbrev dktX2_takes_8 : List UInt8 := dkwX2_takes_8 ++ dktX2_takes_9
def dkwX2_takes_7 : List UInt8 := [185, 0, 51, 1, 0, 162, 0, 40, 42, 28, 182, 0, 78, 182, 0, 101, 153, 0, 23, 42, 180, 0, 44, 42]
abbrev dktX2_takes_7 : List UInt8 := dkwX2_takes_7 ++ dktX2_takes_8
def dkwX2_takes_6 : List UInt8 := [132, 2, 1, 167, 255, 161, 42, 180, 0, 44, 182, 0, 98, 3, 61, 28, 42, 180, 0, 20]
abbrev dktX2_takes_6 : List UInt8 := dkwX2_takes_6 ++ dktX2_takes_7
def dkwX2_takes_5 : List UInt8 := [45, 182, 0, 82, 185, 0, 91, 3, 0, 87, 167, 0, 13, 42, 28, 182, 0, 78, 45, 182, 0, 95, 87]
abbrev dktX2_takes_5 : List UInt8 := dkwX2_takes_5 ++ dktX2_takes_6
def dkwX2_takes_4 : List UInt8 := [87, 167, 0, 46, 42, 28, 182, 0, 78, 180, 0, 88, 45, 180, 0, 88, 159, 0, 21, 42, 180, 0, 20, 28]
abbrev dktX2_takes_4 : List UInt8 := dkwX2_takes_4 ++ dktX2_takes_5
def dkwX2_takes_3 : List UInt8 := [180, 0, 20, 185, 0, 51, 1, 0, 160, 0, 20, 42, 180, 0, 20, 45, 182, 0, 82, 185, 0, 66, 2, 0]
abbrev dktX2_takes_3 : List UInt8 := dkwX2_takes_3 ++ dktX2_takes_4
def dkwX2_takes_2 : List UInt8 := [61, 28, 43, 180, 0, 20, 185, 0, 51, 1, 0, 162, 0, 88, 43, 28, 182, 0, 78, 78, 28, 42]
abbrev dktX2_takes_2 : List UInt8 := dkwX2_takes_2 ++ dktX2_takes_3
def dkwX2_takes_1 : List UInt8 := [180, 0, 20, 42, 180, 0, 20, 185, 0, 51, 1, 0, 4, 100, 185, 0, 74, 2, 0, 87, 167, 255, 214, 3]
abbrev dktX2_takes_1 : List UInt8 := dkwX2_takes_1 ++ dktX2_takes_2
def dkwX2_takes_0 : List UInt8 := [42, 180, 0, 20, 185, 0, 51, 1, 0, 43, 180, 0, 20, 185, 0, 51, 1, 0, 164, 0, 27, 42]
abbrev dktX2_takes_0 : List UInt8 := dkwX2_takes_0 ++ dktX2_takes_1
theorem dksX2_takes_0 : cX2_takes.data.toList.drop 0 = dktX2_takes_0 := by decide +kernel
theorem dksX2_takes_1 : cX2_takes.data.toList.drop 22 = dktX2_takes_1 := dk_seg dksX2_takes_0 22 rfl rfl
theorem dksX2_takes_2 : cX2_takes.data.toList.drop 46 = dktX2_takes_2 := dk_seg dksX2_takes_1 24 rfl rfl
theorem dksX2_takes_3 : cX2_takes.data.toList.drop 68 = dktX2_takes_3 := dk_seg dksX2_takes_2 22 rfl rfl
theorem dksX2_takes_4 : cX2_takes.data.toList.drop 92 = dktX2_takes_4 := dk_seg dksX2_takes_3 24 rfl rfl
theorem dksX2_takes_5 : cX2_takes.data.toList.drop 116 = dktX2_takes_5 := dk_seg dksX2_takes_4 24 rfl rfl
theorem dksX2_takes_6 : cX2_takes.data.toList.drop 139 = dktX2_takes_6 := dk_seg dksX2_takes_5 23 rfl rfl
theorem dksX2_takes_7 : cX2_takes.data.toList.drop 159 = dktX2_takes_7 := dk_seg dksX2_takes_6 20 rfl rfl
theorem dksX2_takes_8 : cX2_takes.data.toList.drop 183 = dktX2_takes_8 := dk_seg dksX2_takes_7 24 rfl rfl
theorem dksX2_takes_9 : cX2_takes.data.toList.drop 207 = dktX2_takes_9 := dk_seg dksX2_takes_8 24 rfl rfl
theorem dksX2_takes_10 : cX2_takes.data.toList.drop 230 = dktX2_takes_10 := dk_seg dksX2_takes_9 23 rfl rfl
theorem dksX2_takes_11 : cX2_takes.data.toList.drop 254 = dktX2_takes_11 := dk_seg dksX2_takes_10 24 rfl rfl
theorem dX2_takes_0 : decode cX2_takes 0 = .ok (.aload_n 0, 1) := dk_42 (dk_at dksX2_takes_0 0 rfl rfl)
theorem dX2_takes_1 : decode cX2_takes 1 = .ok (.getfield 20, 3) := dk_180 0 20 (dk_at dksX2_takes_0 1 rfl rfl)
theorem dX2_takes_4 : decode cX2_takes 4 = .ok (.invokeinterface 51 1, 5) := by decide +kernel
theorem dX2_takes_9 : decode cX2_takes 9 = .ok (.aload_n 1, 1) := dk_43 (dk_at dksX2_takes_0 9 rfl rfl)
theorem dX2_takes_10 : decode cX2_takes 10 = .ok (.getfield 20, 3) := dk_180 0 20 (dk_at dksX2_takes_0 10 rfl rfl)
theorem dX2_takes_13 : decode cX2_takes 13 = .ok (.invokeinterface 51 1, 5) := by decide +kernel
theorem dX2_takes_18 : decode cX2_takes 18 = .ok (.if_icmp .le 27, 3) := dk_164 0 27 (dk_at dksX2_takes_0 18 rfl rfl)
theorem dX2_takes_21 : decode cX2_takes 21 = .ok (.aload_n 0, 1) := dk_42 (dk_at dksX2_takes_0 21 rfl rfl)
theorem dX2_takes_22 : decode cX2_takes 22 = .ok (.getfield 20, 3) := dk_180 0 20 (dk_at dksX2_takes_1 0 rfl rfl)
theorem dX2_takes_25 : decode cX2_takes 25 = .ok (.aload_n 0, 1) := dk_42 (dk_at dksX2_takes_1 3 rfl rfl)
theorem dX2_takes_26 : decode cX2_takes 26 = .ok (.getfield 20, 3) := dk_180 0 20 (dk_at dksX2_takes_1 4 rfl rfl)
theorem dX2_takes_29 : decode cX2_takes 29 = .ok (.invokeinterface 51 1, 5) := by decide +kernel
theorem dX2_takes_34 : decode cX2_takes 34 = .ok (.iconst 1, 1) := dk_4 (dk_at dksX2_takes_1 12 rfl rfl)
theorem dX2_takes_35 : decode cX2_takes 35 = .ok (.isub, 1) := dk_100 (dk_at dksX2_takes_1 13 rfl rfl)
theorem dX2_takes_36 : decode cX2_takes 36 = .ok (.invokeinterface 74 2, 5) := by decide +kernel
theorem dX2_takes_41 : decode cX2_takes 41 = .ok (.pop, 1) := dk_87 (dk_at dksX2_takes_1 19 rfl rfl)
theorem dX2_takes_42 : decode cX2_takes 42 = .ok (.goto (-42), 3) := dk_167 255 214 (dk_at dksX2_takes_1 20 rfl rfl)
theorem dX2_takes_45 : decode cX2_takes 45 = .ok (.iconst 0, 1) := dk_3 (dk_at dksX2_takes_1 23 rfl rfl)
theorem dX2_takes_46 : decode cX2_takes 46 = .ok (.istore_n 2, 1) := dk_61 (dk_at dksX2_takes_2 0 rfl rfl)
theorem dX2_takes_47 : decode cX2_takes 47 = .ok (.iload_n 2, 1) := dk_28 (dk_at dksX2_takes_2 1 rfl rfl)
theorem dX2_takes_48 : decode cX2_takes 48 = .ok (.aload_n 1, 1) := dk_43 (dk_at dksX2_takes_2 2 rfl rfl)
theorem dX2_takes_49 : decode cX2_takes 49 = .ok (.getfield 20, 3) := dk_180 0 20 (dk_at dksX2_takes_2 3 rfl rfl)
theorem dX2_takes_52 : decode cX2_takes 52 = .ok (.invokeinterface 51 1, 5) := by decide +kernel
theorem dX2_takes_57 : decode cX2_takes 57 = .ok (.if_icmp .ge 88, 3) := dk_162 0 88 (dk_at dksX2_takes_2 11 rfl rfl)
theorem dX2_takes_60 : decode cX2_takes 60 = .ok (.aload_n 1, 1) := dk_43 (dk_at dksX2_takes_2 14 rfl rfl)
theorem dX2_takes_61 : decode cX2_takes 61 = .ok (.iload_n 2, 1) := dk_28 (dk_at dksX2_takes_2 15 rfl rfl)
theorem dX2_takes_62 : decode cX2_takes 62 = .ok (.invokevirtual 78, 3) := dk_182 0 78 (dk_at dksX2_takes_2 16 rfl rfl)
theorem dX2_takes_65 : decode cX2_takes 65 = .ok (.astore_n 3, 1) := dk_78 (dk_at dksX2_takes_2 19 rfl rfl)
theorem dX2_takes_66 : decode cX2_takes 66 = .ok (.iload_n 2, 1) := dk_28 (dk_at dksX2_takes_2 20 rfl rfl)
theorem dX2_takes_67 : decode cX2_takes 67 = .ok (.aload_n 0, 1) := dk_42 (dk_at dksX2_takes_2 21 rfl rfl)
theorem dX2_takes_68 : decode cX2_takes 68 = .ok (.getfield 20, 3) := dk_180 0 20 (dk_at dksX2_takes_3 0 rfl rfl)
theorem dX2_takes_71 : decode cX2_takes 71 = .ok (.invokeinterface 51 1, 5) := by decide +kernel
theorem dX2_takes_76 : decode cX2_takes 76 = .ok (.if_icmp .ne 20, 3) := dk_160 0 20 (dk_at dksX2_takes_3 8 rfl rfl)
theorem dX2_takes_79 : decode cX2_takes 79 = .ok (.aload_n 0, 1) := dk_42 (dk_at dksX2_takes_3 11 rfl rfl)
theorem dX2_takes_80 : decode cX2_takes 80 = .ok (.getfield 20, 3) := dk_180 0 20 (dk_at dksX2_takes_3 12 rfl rfl)
theorem dX2_takes_83 : decode cX2_takes 83 = .ok (.aload_n 3, 1) := dk_45 (dk_at dksX2_takes_3 15 rfl rfl)
theorem dX2_takes_84 : decode cX2_takes 84 = .ok (.invokevirtual 82, 3) := dk_182 0 82 (dk_at dksX2_takes_3 16 rfl rfl)
theorem dX2_takes_87 : decode cX2_takes 87 = .ok (.invokeinterface 66 2, 5) := by decide +kernel
theorem dX2_takes_92 : decode cX2_takes 92 = .ok (.pop, 1) := dk_87 (dk_at dksX2_takes_4 0 rfl rfl)
theorem dX2_takes_93 : decode cX2_takes 93 = .ok (.goto 46, 3) := dk_167 0 46 (dk_at dksX2_takes_4 1 rfl rfl)
theorem dX2_takes_96 : decode cX2_takes 96 = .ok (.aload_n 0, 1) := dk_42 (dk_at dksX2_takes_4 4 rfl rfl)
theorem dX2_takes_97 : decode cX2_takes 97 = .ok (.iload_n 2, 1) := dk_28 (dk_at dksX2_takes_4 5 rfl rfl)
theorem dX2_takes_98 : decode cX2_takes 98 = .ok (.invokevirtual 78, 3) := dk_182 0 78 (dk_at dksX2_takes_4 6 rfl rfl)
theorem dX2_takes_101 : decode cX2_takes 101 = .ok (.getfield 88, 3) := dk_180 0 88 (dk_at dksX2_takes_4 9 rfl rfl)
theorem dX2_takes_104 : decode cX2_takes 104 = .ok (.aload_n 3, 1) := dk_45 (dk_at dksX2_takes_4 12 rfl rfl)
theorem dX2_takes_105 : decode cX2_takes 105 = .ok (.getfield 88, 3) := dk_180 0 88 (dk_at dksX2_takes_4 13 rfl rfl)
theorem dX2_takes_108 : decode cX2_takes 108 = .ok (.if_icmp .eq 21, 3) := dk_159 0 21 (dk_at dksX2_takes_4 16 rfl rfl)
theorem dX2_takes_111 : decode cX2_takes 111 = .ok (.aload_n 0, 1) := dk_42 (dk_at dksX2_takes_4 19 rfl rfl)
theorem dX2_takes_112 : decode cX2_takes 112 = .ok (.getfield 20, 3) := dk_180 0 20 (dk_at dksX2_takes_4 20 rfl rfl)
theorem dX2_takes_115 : decode cX2_takes 115 = .ok (.iload_n 2, 1) := dk_28 (dk_at dksX2_takes_4 23 rfl rfl)
theorem dX2_takes_116 : decode cX2_takes 116 = .ok (.aload_n 3, 1) := dk_45 (dk_at dksX2_takes_5 0 rfl rfl)
theorem dX2_takes_117 : decode cX2_takes 117 = .ok (.invokevirtual 82, 3) := dk_182 0 82 (dk_at dksX2_takes_5 1 rfl rfl)
theorem dX2_takes_120 : decode cX2_takes 120 = .ok (.invokeinterface 91 3, 5) := by decide +kernel
theorem dX2_takes_125 : decode cX2_takes 125 = .ok (.pop, 1) := dk_87 (dk_at dksX2_takes_5 9 rfl rfl)
theorem dX2_takes_126 : decode cX2_takes 126 = .ok (.goto 13, 3) := dk_167 0 13 (dk_at dksX2_takes_5 10 rfl rfl)
theorem dX2_takes_129 : decode cX2_takes 129 = .ok (.aload_n 0, 1) := dk_42 (dk_at dksX2_takes_5 13 rfl rfl)
theorem dX2_takes_130 : decode cX2_takes 130 = .ok (.iload_n 2, 1) := dk_28 (dk_at dksX2_takes_5 14 rfl rfl)
theorem dX2_takes_131 : decode cX2_takes 131 = .ok (.invokevirtual 78, 3) := dk_182 0 78 (dk_at dksX2_takes_5 15 rfl rfl)
theorem dX2_takes_134 : decode cX2_takes 134 = .ok (.aload_n 3, 1) := dk_45 (dk_at dksX2_takes_5 18 rfl rfl)
theorem dX2_takes_135 : decode cX2_takes 135 = .ok (.invokevirtual 95, 3) := dk_182 0 95 (dk_at dksX2_takes_5 19 rfl rfl)
theorem dX2_takes_138 : decode cX2_takes 138 = .ok (.pop, 1) := dk_87 (dk_at dksX2_takes_5 22 rfl rfl)
theorem dX2_takes_139 : decode cX2_takes 139 = .ok (.iinc 2 1, 3) := dk_132 2 1 (dk_at dksX2_takes_6 0 rfl rfl)
theorem dX2_takes_142 : decode cX2_takes 142 = .ok (.goto (-95), 3) := dk_167 255 161 (dk_at dksX2_takes_6 3 rfl rfl)
theorem dX2_takes_145 : decode cX2_takes 145 = .ok (.aload_n 0, 1) := dk_42 (dk_at dksX2_takes_6 6 rfl rfl)
theorem dX2_takes_146 : decode cX2_takes 146 = .ok (.getfield 44, 3) := dk_180 0 44 (dk_at dksX2_takes_6 7 rfl rfl)
theorem dX2_takes_149 : decode cX2_takes 149 = .ok (.invokevirtual 98, 3) := dk_182 0 98 (dk_at dksX2_takes_6 10 rfl rfl)
theorem dX2_takes_152 : decode cX2_takes 152 = .ok (.iconst 0, 1) := dk_3 (dk_at dksX2_takes_6 13 rfl rfl)
theorem dX2_takes_153 : decode cX2_takes 153 = .ok (.istore_n 2, 1) := dk_61 (dk_at dksX2_takes_6 14 rfl rfl)
theorem dX2_takes_154 : decode cX2_takes 154 = .ok (.iload_n 2, 1) := dk_28 (dk_at dksX2_takes_6 15 rfl rfl)
theorem dX2_takes_155 : decode cX2_takes 155 = .ok (.aload_n 0, 1) := dk_42 (dk_at dksX2_takes_6 16 rfl rfl)
theorem dX2_takes_156 : decode cX2_takes 156 = .ok (.getfield 20, 3) := dk_180 0 20 (dk_at dksX2_takes_6 17 rfl rfl)
theorem dX2_takes_159 : decode cX2_takes 159 = .ok (.invokeinterface 51 1, 5) := by decide +kernel
theorem dX2_takes_164 : decode cX2_takes 164 = .ok (.if_icmp .ge 40, 3) := dk_162 0 40 (dk_at dksX2_takes_7 5 rfl rfl)
theorem dX2_takes_167 : decode cX2_takes 167 = .ok (.aload_n 0, 1) := dk_42 (dk_at dksX2_takes_7 8 rfl rfl)
theorem dX2_takes_168 : decode cX2_takes 168 = .ok (.iload_n 2, 1) := dk_28 (dk_at dksX2_takes_7 9 rfl rfl)
theorem dX2_takes_169 : decode cX2_takes 169 = .ok (.invokevirtual 78, 3) := dk_182 0 78 (dk_at dksX2_takes_7 10 rfl rfl)
theorem dX2_takes_172 : decode cX2_takes 172 = .ok (.invokevirtual 101, 3) := dk_182 0 101 (dk_at dksX2_takes_7 13 rfl rfl)
theorem dX2_takes_175 : decode cX2_takes 175 = .ok (.ifCond .eq 23, 3) := dk_153 0 23 (dk_at dksX2_takes_7 16 rfl rfl)
theorem dX2_takes_178 : decode cX2_takes 178 = .ok (.aload_n 0, 1) := dk_42 (dk_at dksX2_takes_7 19 rfl rfl)
theorem dX2_takes_179 : decode cX2_takes 179 = .ok (.getfield 44, 3) := dk_180 0 44 (dk_at dksX2_takes_7 20 rfl rfl)
theorem dX2_takes_182 : decode cX2_takes 182 = .ok (.aload_n 0, 1) := dk_42 (dk_at dksX2_takes_7 23 rfl rfl)
theorem dX2_takes_183 : decode cX2_takes 183 = .ok (.iload_n 2, 1) := dk_28 (dk_at dksX2_takes_8 0 rfl rfl)
theorem dX2_takes_184 : decode cX2_takes 184 = .ok (.invokevirtual 78, 3) := dk_182 0 78 (dk_at dksX2_takes_8 1 rfl rfl)
theorem dX2_takes_187 : decode cX2_takes 187 = .ok (.getfield 105, 3) := dk_180 0 105 (dk_at dksX2_takes_8 4 rfl rfl)
theorem dX2_takes_190 : decode cX2_takes 190 = .ok (.aload_n 0, 1) := dk_42 (dk_at dksX2_takes_8 7 rfl rfl)
theorem dX2_takes_191 : decode cX2_takes 191 = .ok (.iload_n 2, 1) := dk_28 (dk_at dksX2_takes_8 8 rfl rfl)
theorem dX2_takes_192 : decode cX2_takes 192 = .ok (.invokevirtual 78, 3) := dk_182 0 78 (dk_at dksX2_takes_8 9 rfl rfl)
theorem dX2_takes_195 : decode cX2_takes 195 = .ok (.invokevirtual 108, 3) := dk_182 0 108 (dk_at dksX2_takes_8 12 rfl rfl)
theorem dX2_takes_198 : decode cX2_takes 198 = .ok (.iinc 2 1, 3) := dk_132 2 1 (dk_at dksX2_takes_8 15 rfl rfl)
theorem dX2_takes_201 : decode cX2_takes 201 = .ok (.goto (-47), 3) := dk_167 255 209 (dk_at dksX2_takes_8 18 rfl rfl)
theorem dX2_takes_204 : decode cX2_takes 204 = .ok (.iconst 0, 1) := dk_3 (dk_at dksX2_takes_8 21 rfl rfl)
theorem dX2_takes_205 : decode cX2_takes 205 = .ok (.istore_n 2, 1) := dk_61 (dk_at dksX2_takes_8 22 rfl rfl)
theorem dX2_takes_206 : decode cX2_takes 206 = .ok (.iload_n 2, 1) := dk_28 (dk_at dksX2_takes_8 23 rfl rfl)
theorem dX2_takes_207 : decode cX2_takes 207 = .ok (.aload_n 0, 1) := dk_42 (dk_at dksX2_takes_9 0 rfl rfl)
theorem dX2_takes_208 : decode cX2_takes 208 = .ok (.getfield 14, 3) := dk_180 0 14 (dk_at dksX2_takes_9 1 rfl rfl)
theorem dX2_takes_211 : decode cX2_takes 211 = .ok (.invokeinterface 51 1, 5) := by decide +kernel
theorem dX2_takes_216 : decode cX2_takes 216 = .ok (.if_icmp .ge 23, 3) := dk_162 0 23 (dk_at dksX2_takes_9 9 rfl rfl)
theorem dX2_takes_219 : decode cX2_takes 219 = .ok (.aload_n 0, 1) := dk_42 (dk_at dksX2_takes_9 12 rfl rfl)
theorem dX2_takes_220 : decode cX2_takes 220 = .ok (.aload_n 0, 1) := dk_42 (dk_at dksX2_takes_9 13 rfl rfl)
theorem dX2_takes_221 : decode cX2_takes 221 = .ok (.iload_n 2, 1) := dk_28 (dk_at dksX2_takes_9 14 rfl rfl)
theorem dX2_takes_222 : decode cX2_takes 222 = .ok (.invokevirtual 59, 3) := dk_182 0 59 (dk_at dksX2_takes_9 15 rfl rfl)
theorem dX2_takes_225 : decode cX2_takes 225 = .ok (.aload_n 1, 1) := dk_43 (dk_at dksX2_takes_9 18 rfl rfl)
theorem dX2_takes_226 : decode cX2_takes 226 = .ok (.iload_n 2, 1) := dk_28 (dk_at dksX2_takes_9 19 rfl rfl)
theorem dX2_takes_227 : decode cX2_takes 227 = .ok (.invokevirtual 59, 3) := dk_182 0 59 (dk_at dksX2_takes_9 20 rfl rfl)
theorem dX2_takes_230 : decode cX2_takes 230 = .ok (.invokevirtual 112, 3) := dk_182 0 112 (dk_at dksX2_takes_10 0 rfl rfl)
theorem dX2_takes_233 : decode cX2_takes 233 = .ok (.iinc 2 1, 3) := dk_132 2 1 (dk_at dksX2_takes_10 3 rfl rfl)
theorem dX2_takes_236 : decode cX2_takes 236 = .ok (.goto (-30), 3) := dk_167 255 226 (dk_at dksX2_takes_10 6 rfl rfl)
theorem dX2_takes_239 : decode cX2_takes 239 = .ok (.aload_n 1, 1) := dk_43 (dk_at dksX2_takes_10 9 rfl rfl)
theorem dX2_takes_240 : decode cX2_takes 240 = .ok (.getfield 23, 3) := dk_180 0 23 (dk_at dksX2_takes_10 10 rfl rfl)
theorem dX2_takes_243 : decode cX2_takes 243 = .ok (.iconst 0, 1) := dk_3 (dk_at dksX2_takes_10 13 rfl rfl)
theorem dX2_takes_244 : decode cX2_takes 244 = .ok (.aload_n 0, 1) := dk_42 (dk_at dksX2_takes_10 14 rfl rfl)
theorem dX2_takes_245 : decode cX2_takes 245 = .ok (.getfield 23, 3) := dk_180 0 23 (dk_at dksX2_takes_10 15 rfl rfl)
theorem dX2_takes_248 : decode cX2_takes 248 = .ok (.iconst 0, 1) := dk_3 (dk_at dksX2_takes_10 18 rfl rfl)
theorem dX2_takes_249 : decode cX2_takes 249 = .ok (.bipush 12, 2) := dk_16 12 (dk_at dksX2_takes_10 19 rfl rfl)
theorem dX2_takes_251 : decode cX2_takes 251 = .ok (.invokestatic 116, 3) := dk_184 0 116 (dk_at dksX2_takes_10 21 rfl rfl)
theorem dX2_takes_254 : decode cX2_takes 254 = .ok (.aload_n 0, 1) := dk_42 (dk_at dksX2_takes_11 0 rfl rfl)
theorem dX2_takes_255 : decode cX2_takes 255 = .ok (.aload_n 1, 1) := dk_43 (dk_at dksX2_takes_11 1 rfl rfl)
theorem dX2_takes_256 : decode cX2_takes 256 = .ok (.getfield 122, 3) := dk_180 0 122 (dk_at dksX2_takes_11 2 rfl rfl)
theorem dX2_takes_259 : decode cX2_takes 259 = .ok (.putfield 122, 3) := dk_181 0 122 (dk_at dksX2_takes_11 5 rfl rfl)
theorem dX2_takes_262 : decode cX2_takes 262 = .ok (.aload_n 0, 1) := dk_42 (dk_at dksX2_takes_11 8 rfl rfl)
theorem dX2_takes_263 : decode cX2_takes 263 = .ok (.aload_n 1, 1) := dk_43 (dk_at dksX2_takes_11 9 rfl rfl)
theorem dX2_takes_264 : decode cX2_takes 264 = .ok (.getfield 27, 3) := dk_180 0 27 (dk_at dksX2_takes_11 10 rfl rfl)
theorem dX2_takes_267 : decode cX2_takes 267 = .ok (.putfield 27, 3) := dk_181 0 27 (dk_at dksX2_takes_11 13 rfl rfl)
theorem dX2_takes_270 : decode cX2_takes 270 = .ok (.aload_n 0, 1) := dk_42 (dk_at dksX2_takes_11 16 rfl rfl)
theorem dX2_takes_271 : decode cX2_takes 271 = .ok (.areturn, 1) := dk_176 (dk_at dksX2_takes_11 17 rfl rfl)
abbrev cX2_parcel : ByteArray := prog_5_method_6_code
def yX2_parcel : MethodName := ⟨RX2, "parcel", "(I)LSortingLoop$Parcel;"⟩
def dkwX2_parcel_0 : List UInt8 := [42, 180, 0, 20, 27, 185, 0, 160, 2, 0, 192, 0, 83, 176]
abbrev dktX2_parcel_0 : List UInt8 := dkwX2_parcel_0 ++ []
theorem dksX2_parcel_0 : cX2_parcel.data.toList.drop 0 = dktX2_parcel_0 := by decide +kernel
theorem dX2_parcel_0 : decode cX2_parcel 0 = .ok (.aload_n 0, 1) := dk_42 (dk_at dksX2_parcel_0 0 rfl rfl)
theorem dX2_parcel_1 : decode cX2_parcel 1 = .ok (.getfield 20, 3) := dk_180 0 20 (dk_at dksX2_parcel_0 1 rfl rfl)
theorem dX2_parcel_4 : decode cX2_parcel 4 = .ok (.iload_n 1, 1) := dk_27 (dk_at dksX2_parcel_0 4 rfl rfl)
theorem dX2_parcel_5 : decode cX2_parcel 5 = .ok (.invokeinterface 160 2, 5) := by decide +kernel
theorem dX2_parcel_10 : decode cX2_parcel 10 = .ok (.checkcast 83, 3) := dk_192 0 83 (dk_at dksX2_parcel_0 10 rfl rfl)
theorem dX2_parcel_13 : decode cX2_parcel 13 = .ok (.areturn, 1) := dk_176 (dk_at dksX2_parcel_0 13 rfl rfl)
abbrev cX2_fills : ByteArray := prog_5_method_4_code
def yX2_fills : MethodName := ⟨RX2, "fills", "(LSortingLoop$Chute;LSortingLoop$Chute;)V"⟩
def dkwX2_fills_4 : List UInt8 := [181, 0, 156, 177]
abbrev dktX2_fills_4 : List UInt8 := dkwX2_fills_4 ++ []
def dkwX2_fills_3 : List UInt8 := [181, 0, 147, 43, 44, 180, 0, 150, 181, 0, 150, 43, 44, 180, 0, 153, 181, 0, 153, 43, 44, 180, 0, 156]
abbrev dktX2_fills_3 : List UInt8 := dkwX2_fills_3 ++ dktX2_fills_4
def dkwX2_fills_2 : List UInt8 := [25, 4, 180, 0, 144, 182, 0, 78, 185, 0, 66, 2, 0, 87, 167, 255, 217, 43, 44, 180, 0, 147]
abbrev dktX2_fills_2 : List UInt8 := dkwX2_fills_2 ++ dktX2_fills_3
def dkwX2_fills_1 : List UInt8 := [185, 0, 135, 1, 0, 153, 0, 36, 45, 185, 0, 140, 1, 0, 192, 0, 83, 58, 4, 43, 180, 0, 125, 42]
abbrev dktX2_fills_1 : List UInt8 := dkwX2_fills_1 ++ dktX2_fills_2
def dkwX2_fills_0 : List UInt8 := [43, 180, 0, 125, 185, 0, 128, 1, 0, 44, 180, 0, 125, 185, 0, 131, 1, 0, 78, 45]
abbrev dktX2_fills_0 : List UInt8 := dkwX2_fills_0 ++ dktX2_fills_1
theorem dksX2_fills_0 : cX2_fills.data.toList.drop 0 = dktX2_fills_0 := by decide +kernel
theorem dksX2_fills_1 : cX2_fills.data.toList.drop 20 = dktX2_fills_1 := dk_seg dksX2_fills_0 20 rfl rfl
theorem dksX2_fills_2 : cX2_fills.data.toList.drop 44 = dktX2_fills_2 := dk_seg dksX2_fills_1 24 rfl rfl
theorem dksX2_fills_3 : cX2_fills.data.toList.drop 66 = dktX2_fills_3 := dk_seg dksX2_fills_2 22 rfl rfl
theorem dksX2_fills_4 : cX2_fills.data.toList.drop 90 = dktX2_fills_4 := dk_seg dksX2_fills_3 24 rfl rfl
theorem dX2_fills_0 : decode cX2_fills 0 = .ok (.aload_n 1, 1) := dk_43 (dk_at dksX2_fills_0 0 rfl rfl)
theorem dX2_fills_1 : decode cX2_fills 1 = .ok (.getfield 125, 3) := dk_180 0 125 (dk_at dksX2_fills_0 1 rfl rfl)
theorem dX2_fills_4 : decode cX2_fills 4 = .ok (.invokeinterface 128 1, 5) := by decide +kernel
theorem dX2_fills_9 : decode cX2_fills 9 = .ok (.aload_n 2, 1) := dk_44 (dk_at dksX2_fills_0 9 rfl rfl)
theorem dX2_fills_10 : decode cX2_fills 10 = .ok (.getfield 125, 3) := dk_180 0 125 (dk_at dksX2_fills_0 10 rfl rfl)
theorem dX2_fills_13 : decode cX2_fills 13 = .ok (.invokeinterface 131 1, 5) := by decide +kernel
theorem dX2_fills_18 : decode cX2_fills 18 = .ok (.astore_n 3, 1) := dk_78 (dk_at dksX2_fills_0 18 rfl rfl)
theorem dX2_fills_19 : decode cX2_fills 19 = .ok (.aload_n 3, 1) := dk_45 (dk_at dksX2_fills_0 19 rfl rfl)
theorem dX2_fills_20 : decode cX2_fills 20 = .ok (.invokeinterface 135 1, 5) := by decide +kernel
theorem dX2_fills_25 : decode cX2_fills 25 = .ok (.ifCond .eq 36, 3) := dk_153 0 36 (dk_at dksX2_fills_1 5 rfl rfl)
theorem dX2_fills_28 : decode cX2_fills 28 = .ok (.aload_n 3, 1) := dk_45 (dk_at dksX2_fills_1 8 rfl rfl)
theorem dX2_fills_29 : decode cX2_fills 29 = .ok (.invokeinterface 140 1, 5) := by decide +kernel
theorem dX2_fills_34 : decode cX2_fills 34 = .ok (.checkcast 83, 3) := dk_192 0 83 (dk_at dksX2_fills_1 14 rfl rfl)
theorem dX2_fills_37 : decode cX2_fills 37 = .ok (.astore 4, 2) := dk_58 4 (dk_at dksX2_fills_1 17 rfl rfl)
theorem dX2_fills_39 : decode cX2_fills 39 = .ok (.aload_n 1, 1) := dk_43 (dk_at dksX2_fills_1 19 rfl rfl)
theorem dX2_fills_40 : decode cX2_fills 40 = .ok (.getfield 125, 3) := dk_180 0 125 (dk_at dksX2_fills_1 20 rfl rfl)
theorem dX2_fills_43 : decode cX2_fills 43 = .ok (.aload_n 0, 1) := dk_42 (dk_at dksX2_fills_1 23 rfl rfl)
theorem dX2_fills_44 : decode cX2_fills 44 = .ok (.aload 4, 2) := dk_25 4 (dk_at dksX2_fills_2 0 rfl rfl)
theorem dX2_fills_46 : decode cX2_fills 46 = .ok (.getfield 144, 3) := dk_180 0 144 (dk_at dksX2_fills_2 2 rfl rfl)
theorem dX2_fills_49 : decode cX2_fills 49 = .ok (.invokevirtual 78, 3) := dk_182 0 78 (dk_at dksX2_fills_2 5 rfl rfl)
theorem dX2_fills_52 : decode cX2_fills 52 = .ok (.invokeinterface 66 2, 5) := by decide +kernel
theorem dX2_fills_57 : decode cX2_fills 57 = .ok (.pop, 1) := dk_87 (dk_at dksX2_fills_2 13 rfl rfl)
theorem dX2_fills_58 : decode cX2_fills 58 = .ok (.goto (-39), 3) := dk_167 255 217 (dk_at dksX2_fills_2 14 rfl rfl)
theorem dX2_fills_61 : decode cX2_fills 61 = .ok (.aload_n 1, 1) := dk_43 (dk_at dksX2_fills_2 17 rfl rfl)
theorem dX2_fills_62 : decode cX2_fills 62 = .ok (.aload_n 2, 1) := dk_44 (dk_at dksX2_fills_2 18 rfl rfl)
theorem dX2_fills_63 : decode cX2_fills 63 = .ok (.getfield 147, 3) := dk_180 0 147 (dk_at dksX2_fills_2 19 rfl rfl)
theorem dX2_fills_66 : decode cX2_fills 66 = .ok (.putfield 147, 3) := dk_181 0 147 (dk_at dksX2_fills_3 0 rfl rfl)
theorem dX2_fills_69 : decode cX2_fills 69 = .ok (.aload_n 1, 1) := dk_43 (dk_at dksX2_fills_3 3 rfl rfl)
theorem dX2_fills_70 : decode cX2_fills 70 = .ok (.aload_n 2, 1) := dk_44 (dk_at dksX2_fills_3 4 rfl rfl)
theorem dX2_fills_71 : decode cX2_fills 71 = .ok (.getfield 150, 3) := dk_180 0 150 (dk_at dksX2_fills_3 5 rfl rfl)
theorem dX2_fills_74 : decode cX2_fills 74 = .ok (.putfield 150, 3) := dk_181 0 150 (dk_at dksX2_fills_3 8 rfl rfl)
theorem dX2_fills_77 : decode cX2_fills 77 = .ok (.aload_n 1, 1) := dk_43 (dk_at dksX2_fills_3 11 rfl rfl)
theorem dX2_fills_78 : decode cX2_fills 78 = .ok (.aload_n 2, 1) := dk_44 (dk_at dksX2_fills_3 12 rfl rfl)
theorem dX2_fills_79 : decode cX2_fills 79 = .ok (.getfield 153, 3) := dk_180 0 153 (dk_at dksX2_fills_3 13 rfl rfl)
theorem dX2_fills_82 : decode cX2_fills 82 = .ok (.putfield 153, 3) := dk_181 0 153 (dk_at dksX2_fills_3 16 rfl rfl)
theorem dX2_fills_85 : decode cX2_fills 85 = .ok (.aload_n 1, 1) := dk_43 (dk_at dksX2_fills_3 19 rfl rfl)
theorem dX2_fills_86 : decode cX2_fills 86 = .ok (.aload_n 2, 1) := dk_44 (dk_at dksX2_fills_3 20 rfl rfl)
theorem dX2_fills_87 : decode cX2_fills 87 = .ok (.getfield 156, 3) := dk_180 0 156 (dk_at dksX2_fills_3 21 rfl rfl)
theorem dX2_fills_90 : decode cX2_fills 90 = .ok (.putfield 156, 3) := dk_181 0 156 (dk_at dksX2_fills_4 0 rfl rfl)
theorem dX2_fills_93 : decode cX2_fills 93 = .ok (.return_, 1) := dk_177 (dk_at dksX2_fills_4 3 rfl rfl)
abbrev cX2_scannerMany : ByteArray := prog_5_method_10_code
def yX2_scannerMany : MethodName := ⟨RX2, "scannerMany", "()I"⟩
def dkwX2_scannerMany_1 : List UInt8 := [132, 2, 1, 167, 255, 233, 27, 172]
abbrev dktX2_scannerMany_1 : List UInt8 := dkwX2_scannerMany_1 ++ []
def dkwX2_scannerMany_0 : List UInt8 := [3, 60, 3, 61, 28, 42, 180, 0, 31, 162, 0, 21, 27, 42, 180, 0, 37, 28, 51, 184, 0, 174, 96, 60]
abbrev dktX2_scannerMany_0 : List UInt8 := dkwX2_scannerMany_0 ++ dktX2_scannerMany_1
theorem dksX2_scannerMany_0 : cX2_scannerMany.data.toList.drop 0 = dktX2_scannerMany_0 := by decide +kernel
theorem dksX2_scannerMany_1 : cX2_scannerMany.data.toList.drop 24 = dktX2_scannerMany_1 := dk_seg dksX2_scannerMany_0 24 rfl rfl
theorem dX2_scannerMany_0 : decode cX2_scannerMany 0 = .ok (.iconst 0, 1) := dk_3 (dk_at dksX2_scannerMany_0 0 rfl rfl)
theorem dX2_scannerMany_1 : decode cX2_scannerMany 1 = .ok (.istore_n 1, 1) := dk_60 (dk_at dksX2_scannerMany_0 1 rfl rfl)
theorem dX2_scannerMany_2 : decode cX2_scannerMany 2 = .ok (.iconst 0, 1) := dk_3 (dk_at dksX2_scannerMany_0 2 rfl rfl)
theorem dX2_scannerMany_3 : decode cX2_scannerMany 3 = .ok (.istore_n 2, 1) := dk_61 (dk_at dksX2_scannerMany_0 3 rfl rfl)
theorem dX2_scannerMany_4 : decode cX2_scannerMany 4 = .ok (.iload_n 2, 1) := dk_28 (dk_at dksX2_scannerMany_0 4 rfl rfl)
theorem dX2_scannerMany_5 : decode cX2_scannerMany 5 = .ok (.aload_n 0, 1) := dk_42 (dk_at dksX2_scannerMany_0 5 rfl rfl)
theorem dX2_scannerMany_6 : decode cX2_scannerMany 6 = .ok (.getfield 31, 3) := dk_180 0 31 (dk_at dksX2_scannerMany_0 6 rfl rfl)
theorem dX2_scannerMany_9 : decode cX2_scannerMany 9 = .ok (.if_icmp .ge 21, 3) := dk_162 0 21 (dk_at dksX2_scannerMany_0 9 rfl rfl)
theorem dX2_scannerMany_12 : decode cX2_scannerMany 12 = .ok (.iload_n 1, 1) := dk_27 (dk_at dksX2_scannerMany_0 12 rfl rfl)
theorem dX2_scannerMany_13 : decode cX2_scannerMany 13 = .ok (.aload_n 0, 1) := dk_42 (dk_at dksX2_scannerMany_0 13 rfl rfl)
theorem dX2_scannerMany_14 : decode cX2_scannerMany 14 = .ok (.getfield 37, 3) := dk_180 0 37 (dk_at dksX2_scannerMany_0 14 rfl rfl)
theorem dX2_scannerMany_17 : decode cX2_scannerMany 17 = .ok (.iload_n 2, 1) := dk_28 (dk_at dksX2_scannerMany_0 17 rfl rfl)
theorem dX2_scannerMany_18 : decode cX2_scannerMany 18 = .ok (.baload, 1) := dk_51 (dk_at dksX2_scannerMany_0 18 rfl rfl)
theorem dX2_scannerMany_19 : decode cX2_scannerMany 19 = .ok (.invokestatic 174, 3) := dk_184 0 174 (dk_at dksX2_scannerMany_0 19 rfl rfl)
theorem dX2_scannerMany_22 : decode cX2_scannerMany 22 = .ok (.iadd, 1) := dk_96 (dk_at dksX2_scannerMany_0 22 rfl rfl)
theorem dX2_scannerMany_23 : decode cX2_scannerMany 23 = .ok (.istore_n 1, 1) := dk_60 (dk_at dksX2_scannerMany_0 23 rfl rfl)
theorem dX2_scannerMany_24 : decode cX2_scannerMany 24 = .ok (.iinc 2 1, 3) := dk_132 2 1 (dk_at dksX2_scannerMany_1 0 rfl rfl)
theorem dX2_scannerMany_27 : decode cX2_scannerMany 27 = .ok (.goto (-23), 3) := dk_167 255 233 (dk_at dksX2_scannerMany_1 3 rfl rfl)
theorem dX2_scannerMany_30 : decode cX2_scannerMany 30 = .ok (.iload_n 1, 1) := dk_27 (dk_at dksX2_scannerMany_1 6 rfl rfl)
theorem dX2_scannerMany_31 : decode cX2_scannerMany 31 = .ok (.ireturn, 1) := dk_172 (dk_at dksX2_scannerMany_1 7 rfl rfl)
abbrev cX2_chuteAt : ByteArray := prog_5_method_9_code
def yX2_chuteAt : MethodName := ⟨RX2, "chuteAt", "(I)I"⟩
def dkwX2_chuteAt_1 : List UInt8 := [160, 0, 5, 28, 172, 132, 2, 1, 167, 255, 226, 2, 172]
abbrev dktX2_chuteAt_1 : List UInt8 := dkwX2_chuteAt_1 ++ []
def dkwX2_chuteAt_0 : List UInt8 := [3, 61, 28, 42, 180, 0, 14, 185, 0, 51, 1, 0, 162, 0, 23, 42, 28, 182, 0, 59, 180, 0, 173, 27]
abbrev dktX2_chuteAt_0 : List UInt8 := dkwX2_chuteAt_0 ++ dktX2_chuteAt_1
theorem dksX2_chuteAt_0 : cX2_chuteAt.data.toList.drop 0 = dktX2_chuteAt_0 := by decide +kernel
theorem dksX2_chuteAt_1 : cX2_chuteAt.data.toList.drop 24 = dktX2_chuteAt_1 := dk_seg dksX2_chuteAt_0 24 rfl rfl
theorem dX2_chuteAt_0 : decode cX2_chuteAt 0 = .ok (.iconst 0, 1) := dk_3 (dk_at dksX2_chuteAt_0 0 rfl rfl)
theorem dX2_chuteAt_1 : decode cX2_chuteAt 1 = .ok (.istore_n 2, 1) := dk_61 (dk_at dksX2_chuteAt_0 1 rfl rfl)
theorem dX2_chuteAt_2 : decode cX2_chuteAt 2 = .ok (.iload_n 2, 1) := dk_28 (dk_at dksX2_chuteAt_0 2 rfl rfl)
theorem dX2_chuteAt_3 : decode cX2_chuteAt 3 = .ok (.aload_n 0, 1) := dk_42 (dk_at dksX2_chuteAt_0 3 rfl rfl)
theorem dX2_chuteAt_4 : decode cX2_chuteAt 4 = .ok (.getfield 14, 3) := dk_180 0 14 (dk_at dksX2_chuteAt_0 4 rfl rfl)
theorem dX2_chuteAt_7 : decode cX2_chuteAt 7 = .ok (.invokeinterface 51 1, 5) := by decide +kernel
theorem dX2_chuteAt_12 : decode cX2_chuteAt 12 = .ok (.if_icmp .ge 23, 3) := dk_162 0 23 (dk_at dksX2_chuteAt_0 12 rfl rfl)
theorem dX2_chuteAt_15 : decode cX2_chuteAt 15 = .ok (.aload_n 0, 1) := dk_42 (dk_at dksX2_chuteAt_0 15 rfl rfl)
theorem dX2_chuteAt_16 : decode cX2_chuteAt 16 = .ok (.iload_n 2, 1) := dk_28 (dk_at dksX2_chuteAt_0 16 rfl rfl)
theorem dX2_chuteAt_17 : decode cX2_chuteAt 17 = .ok (.invokevirtual 59, 3) := dk_182 0 59 (dk_at dksX2_chuteAt_0 17 rfl rfl)
theorem dX2_chuteAt_20 : decode cX2_chuteAt 20 = .ok (.getfield 173, 3) := dk_180 0 173 (dk_at dksX2_chuteAt_0 20 rfl rfl)
theorem dX2_chuteAt_23 : decode cX2_chuteAt 23 = .ok (.iload_n 1, 1) := dk_27 (dk_at dksX2_chuteAt_0 23 rfl rfl)
theorem dX2_chuteAt_24 : decode cX2_chuteAt 24 = .ok (.if_icmp .ne 5, 3) := dk_160 0 5 (dk_at dksX2_chuteAt_1 0 rfl rfl)
theorem dX2_chuteAt_27 : decode cX2_chuteAt 27 = .ok (.iload_n 2, 1) := dk_28 (dk_at dksX2_chuteAt_1 3 rfl rfl)
theorem dX2_chuteAt_28 : decode cX2_chuteAt 28 = .ok (.ireturn, 1) := dk_172 (dk_at dksX2_chuteAt_1 4 rfl rfl)
theorem dX2_chuteAt_29 : decode cX2_chuteAt 29 = .ok (.iinc 2 1, 3) := dk_132 2 1 (dk_at dksX2_chuteAt_1 5 rfl rfl)
theorem dX2_chuteAt_32 : decode cX2_chuteAt 32 = .ok (.goto (-30), 3) := dk_167 255 226 (dk_at dksX2_chuteAt_1 8 rfl rfl)
theorem dX2_chuteAt_35 : decode cX2_chuteAt 35 = .ok (.iconst (-1), 1) := dk_2 (dk_at dksX2_chuteAt_1 11 rfl rfl)
theorem dX2_chuteAt_36 : decode cX2_chuteAt 36 = .ok (.ireturn, 1) := dk_172 (dk_at dksX2_chuteAt_1 12 rfl rfl)
abbrev cX2_empties : ByteArray := prog_5_method_25_code
def yX2_empties : MethodName := ⟨RX2, "empties", "(LSortingLoop$Chute;)I"⟩
def dkwX2_empties_3 : List UInt8 := [96, 79, 28, 172]
abbrev dktX2_empties_3 : List UInt8 := dkwX2_empties_3 ++ []
def dkwX2_empties_2 : List UInt8 := [181, 0, 178, 167, 255, 230, 43, 180, 0, 125, 185, 0, 128, 1, 0, 42, 180, 0, 23, 16, 10, 92, 46, 28]
abbrev dktX2_empties_2 : List UInt8 := dkwX2_empties_2 ++ dktX2_empties_3
def dkwX2_empties_1 : List UInt8 := [185, 0, 135, 1, 0, 153, 0, 23, 45, 185, 0, 140, 1, 0, 192, 0, 83, 58, 4, 25, 4, 5]
abbrev dktX2_empties_1 : List UInt8 := dkwX2_empties_1 ++ dktX2_empties_2
def dkwX2_empties_0 : List UInt8 := [43, 180, 0, 125, 185, 0, 51, 1, 0, 61, 43, 180, 0, 125, 185, 0, 131, 1, 0, 78, 45]
abbrev dktX2_empties_0 : List UInt8 := dkwX2_empties_0 ++ dktX2_empties_1
theorem dksX2_empties_0 : cX2_empties.data.toList.drop 0 = dktX2_empties_0 := by decide +kernel
theorem dksX2_empties_1 : cX2_empties.data.toList.drop 21 = dktX2_empties_1 := dk_seg dksX2_empties_0 21 rfl rfl
theorem dksX2_empties_2 : cX2_empties.data.toList.drop 43 = dktX2_empties_2 := dk_seg dksX2_empties_1 22 rfl rfl
theorem dksX2_empties_3 : cX2_empties.data.toList.drop 67 = dktX2_empties_3 := dk_seg dksX2_empties_2 24 rfl rfl
theorem dX2_empties_0 : decode cX2_empties 0 = .ok (.aload_n 1, 1) := dk_43 (dk_at dksX2_empties_0 0 rfl rfl)
theorem dX2_empties_1 : decode cX2_empties 1 = .ok (.getfield 125, 3) := dk_180 0 125 (dk_at dksX2_empties_0 1 rfl rfl)
theorem dX2_empties_4 : decode cX2_empties 4 = .ok (.invokeinterface 51 1, 5) := by decide +kernel
theorem dX2_empties_9 : decode cX2_empties 9 = .ok (.istore_n 2, 1) := dk_61 (dk_at dksX2_empties_0 9 rfl rfl)
theorem dX2_empties_10 : decode cX2_empties 10 = .ok (.aload_n 1, 1) := dk_43 (dk_at dksX2_empties_0 10 rfl rfl)
theorem dX2_empties_11 : decode cX2_empties 11 = .ok (.getfield 125, 3) := dk_180 0 125 (dk_at dksX2_empties_0 11 rfl rfl)
theorem dX2_empties_14 : decode cX2_empties 14 = .ok (.invokeinterface 131 1, 5) := by decide +kernel
theorem dX2_empties_19 : decode cX2_empties 19 = .ok (.astore_n 3, 1) := dk_78 (dk_at dksX2_empties_0 19 rfl rfl)
theorem dX2_empties_20 : decode cX2_empties 20 = .ok (.aload_n 3, 1) := dk_45 (dk_at dksX2_empties_0 20 rfl rfl)
theorem dX2_empties_21 : decode cX2_empties 21 = .ok (.invokeinterface 135 1, 5) := by decide +kernel
theorem dX2_empties_26 : decode cX2_empties 26 = .ok (.ifCond .eq 23, 3) := dk_153 0 23 (dk_at dksX2_empties_1 5 rfl rfl)
theorem dX2_empties_29 : decode cX2_empties 29 = .ok (.aload_n 3, 1) := dk_45 (dk_at dksX2_empties_1 8 rfl rfl)
theorem dX2_empties_30 : decode cX2_empties 30 = .ok (.invokeinterface 140 1, 5) := by decide +kernel
theorem dX2_empties_35 : decode cX2_empties 35 = .ok (.checkcast 83, 3) := dk_192 0 83 (dk_at dksX2_empties_1 14 rfl rfl)
theorem dX2_empties_38 : decode cX2_empties 38 = .ok (.astore 4, 2) := dk_58 4 (dk_at dksX2_empties_1 17 rfl rfl)
theorem dX2_empties_40 : decode cX2_empties 40 = .ok (.aload 4, 2) := dk_25 4 (dk_at dksX2_empties_1 19 rfl rfl)
theorem dX2_empties_42 : decode cX2_empties 42 = .ok (.iconst 2, 1) := dk_5 (dk_at dksX2_empties_1 21 rfl rfl)
theorem dX2_empties_43 : decode cX2_empties 43 = .ok (.putfield 178, 3) := dk_181 0 178 (dk_at dksX2_empties_2 0 rfl rfl)
theorem dX2_empties_46 : decode cX2_empties 46 = .ok (.goto (-26), 3) := dk_167 255 230 (dk_at dksX2_empties_2 3 rfl rfl)
theorem dX2_empties_49 : decode cX2_empties 49 = .ok (.aload_n 1, 1) := dk_43 (dk_at dksX2_empties_2 6 rfl rfl)
theorem dX2_empties_50 : decode cX2_empties 50 = .ok (.getfield 125, 3) := dk_180 0 125 (dk_at dksX2_empties_2 7 rfl rfl)
theorem dX2_empties_53 : decode cX2_empties 53 = .ok (.invokeinterface 128 1, 5) := by decide +kernel
theorem dX2_empties_58 : decode cX2_empties 58 = .ok (.aload_n 0, 1) := dk_42 (dk_at dksX2_empties_2 15 rfl rfl)
theorem dX2_empties_59 : decode cX2_empties 59 = .ok (.getfield 23, 3) := dk_180 0 23 (dk_at dksX2_empties_2 16 rfl rfl)
theorem dX2_empties_62 : decode cX2_empties 62 = .ok (.bipush 10, 2) := dk_16 10 (dk_at dksX2_empties_2 19 rfl rfl)
theorem dX2_empties_64 : decode cX2_empties 64 = .ok (.dup2, 1) := dk_92 (dk_at dksX2_empties_2 21 rfl rfl)
theorem dX2_empties_65 : decode cX2_empties 65 = .ok (.iaload, 1) := dk_46 (dk_at dksX2_empties_2 22 rfl rfl)
theorem dX2_empties_66 : decode cX2_empties 66 = .ok (.iload_n 2, 1) := dk_28 (dk_at dksX2_empties_2 23 rfl rfl)
theorem dX2_empties_67 : decode cX2_empties 67 = .ok (.iadd, 1) := dk_96 (dk_at dksX2_empties_3 0 rfl rfl)
theorem dX2_empties_68 : decode cX2_empties 68 = .ok (.iastore, 1) := dk_79 (dk_at dksX2_empties_3 1 rfl rfl)
theorem dX2_empties_69 : decode cX2_empties 69 = .ok (.iload_n 2, 1) := dk_28 (dk_at dksX2_empties_3 2 rfl rfl)
theorem dX2_empties_70 : decode cX2_empties 70 = .ok (.ireturn, 1) := dk_172 (dk_at dksX2_empties_3 3 rfl rfl)
abbrev cX2_opens : ByteArray := prog_5_method_26_code
def yX2_opens : MethodName := ⟨RX2, "opens", "(LSortingLoop$Chute;Z)I"⟩
def dkwX2_opens_0 : List UInt8 := [43, 180, 0, 156, 184, 0, 174, 62, 43, 28, 181, 0, 156, 29, 172]
abbrev dktX2_opens_0 : List UInt8 := dkwX2_opens_0 ++ []
theorem dksX2_opens_0 : cX2_opens.data.toList.drop 0 = dktX2_opens_0 := by decide +kernel
theorem dX2_opens_0 : decode cX2_opens 0 = .ok (.aload_n 1, 1) := dk_43 (dk_at dksX2_opens_0 0 rfl rfl)
theorem dX2_opens_1 : decode cX2_opens 1 = .ok (.getfield 156, 3) := dk_180 0 156 (dk_at dksX2_opens_0 1 rfl rfl)
theorem dX2_opens_4 : decode cX2_opens 4 = .ok (.invokestatic 174, 3) := dk_184 0 174 (dk_at dksX2_opens_0 4 rfl rfl)
theorem dX2_opens_7 : decode cX2_opens 7 = .ok (.istore_n 3, 1) := dk_62 (dk_at dksX2_opens_0 7 rfl rfl)
theorem dX2_opens_8 : decode cX2_opens 8 = .ok (.aload_n 1, 1) := dk_43 (dk_at dksX2_opens_0 8 rfl rfl)
theorem dX2_opens_9 : decode cX2_opens 9 = .ok (.iload_n 2, 1) := dk_28 (dk_at dksX2_opens_0 9 rfl rfl)
theorem dX2_opens_10 : decode cX2_opens 10 = .ok (.putfield 156, 3) := dk_181 0 156 (dk_at dksX2_opens_0 10 rfl rfl)
theorem dX2_opens_13 : decode cX2_opens 13 = .ok (.iload_n 3, 1) := dk_29 (dk_at dksX2_opens_0 13 rfl rfl)
theorem dX2_opens_14 : decode cX2_opens 14 = .ok (.ireturn, 1) := dk_172 (dk_at dksX2_opens_0 14 rfl rfl)
abbrev cX2_againstPut : ByteArray := prog_5_method_12_code
def yX2_againstPut : MethodName := ⟨RX2, "againstPut", "()I"⟩
def dkwX2_againstPut_1 : List UInt8 := [180, 0, 34, 182, 0, 181, 153, 0, 7, 3, 167, 0, 4, 5, 172]
abbrev dktX2_againstPut_1 : List UInt8 := dkwX2_againstPut_1 ++ []
def dkwX2_againstPut_0 : List UInt8 := [42, 180, 0, 20, 185, 0, 51, 1, 0, 16, 40, 160, 0, 7, 4, 167, 0, 22, 42, 180, 0, 44, 42]
abbrev dktX2_againstPut_0 : List UInt8 := dkwX2_againstPut_0 ++ dktX2_againstPut_1
theorem dksX2_againstPut_0 : cX2_againstPut.data.toList.drop 0 = dktX2_againstPut_0 := by decide +kernel
theorem dksX2_againstPut_1 : cX2_againstPut.data.toList.drop 23 = dktX2_againstPut_1 := dk_seg dksX2_againstPut_0 23 rfl rfl
theorem dX2_againstPut_0 : decode cX2_againstPut 0 = .ok (.aload_n 0, 1) := dk_42 (dk_at dksX2_againstPut_0 0 rfl rfl)
theorem dX2_againstPut_1 : decode cX2_againstPut 1 = .ok (.getfield 20, 3) := dk_180 0 20 (dk_at dksX2_againstPut_0 1 rfl rfl)
theorem dX2_againstPut_4 : decode cX2_againstPut 4 = .ok (.invokeinterface 51 1, 5) := by decide +kernel
theorem dX2_againstPut_9 : decode cX2_againstPut 9 = .ok (.bipush 40, 2) := dk_16 40 (dk_at dksX2_againstPut_0 9 rfl rfl)
theorem dX2_againstPut_11 : decode cX2_againstPut 11 = .ok (.if_icmp .ne 7, 3) := dk_160 0 7 (dk_at dksX2_againstPut_0 11 rfl rfl)
theorem dX2_againstPut_14 : decode cX2_againstPut 14 = .ok (.iconst 1, 1) := dk_4 (dk_at dksX2_againstPut_0 14 rfl rfl)
theorem dX2_againstPut_15 : decode cX2_againstPut 15 = .ok (.goto 22, 3) := dk_167 0 22 (dk_at dksX2_againstPut_0 15 rfl rfl)
theorem dX2_againstPut_18 : decode cX2_againstPut 18 = .ok (.aload_n 0, 1) := dk_42 (dk_at dksX2_againstPut_0 18 rfl rfl)
theorem dX2_againstPut_19 : decode cX2_againstPut 19 = .ok (.getfield 44, 3) := dk_180 0 44 (dk_at dksX2_againstPut_0 19 rfl rfl)
theorem dX2_againstPut_22 : decode cX2_againstPut 22 = .ok (.aload_n 0, 1) := dk_42 (dk_at dksX2_againstPut_0 22 rfl rfl)
theorem dX2_againstPut_23 : decode cX2_againstPut 23 = .ok (.getfield 34, 3) := dk_180 0 34 (dk_at dksX2_againstPut_1 0 rfl rfl)
theorem dX2_againstPut_26 : decode cX2_againstPut 26 = .ok (.invokevirtual 181, 3) := dk_182 0 181 (dk_at dksX2_againstPut_1 3 rfl rfl)
theorem dX2_againstPut_29 : decode cX2_againstPut 29 = .ok (.ifCond .eq 7, 3) := dk_153 0 7 (dk_at dksX2_againstPut_1 6 rfl rfl)
theorem dX2_againstPut_32 : decode cX2_againstPut 32 = .ok (.iconst 0, 1) := dk_3 (dk_at dksX2_againstPut_1 9 rfl rfl)
theorem dX2_againstPut_33 : decode cX2_againstPut 33 = .ok (.goto 4, 3) := dk_167 0 4 (dk_at dksX2_againstPut_1 10 rfl rfl)
theorem dX2_againstPut_36 : decode cX2_againstPut 36 = .ok (.iconst 2, 1) := dk_5 (dk_at dksX2_againstPut_1 13 rfl rfl)
theorem dX2_againstPut_37 : decode cX2_againstPut 37 = .ok (.ireturn, 1) := dk_172 (dk_at dksX2_againstPut_1 14 rfl rfl)
abbrev cX2_puts : ByteArray := prog_5_method_13_code
def yX2_puts : MethodName := ⟨RX2, "puts", "(II)I"⟩
def dkwX2_puts_2 : List UInt8 := [180, 0, 23, 4, 92, 46, 4, 96, 79, 45, 180, 0, 144, 172]
abbrev dktX2_puts_2 : List UInt8 := dkwX2_puts_2 ++ []
def dkwX2_puts_1 : List UInt8 := [180, 0, 20, 45, 185, 0, 66, 2, 0, 87, 42, 180, 0, 44, 42, 180, 0, 34, 45, 182, 0, 108, 42]
abbrev dktX2_puts_1 : List UInt8 := dkwX2_puts_1 ++ dktX2_puts_2
def dkwX2_puts_0 : List UInt8 := [187, 0, 83, 89, 42, 180, 0, 20, 185, 0, 51, 1, 0, 27, 28, 42, 180, 0, 34, 183, 0, 185, 78, 42]
abbrev dktX2_puts_0 : List UInt8 := dkwX2_puts_0 ++ dktX2_puts_1
theorem dksX2_puts_0 : cX2_puts.data.toList.drop 0 = dktX2_puts_0 := by decide +kernel
theorem dksX2_puts_1 : cX2_puts.data.toList.drop 24 = dktX2_puts_1 := dk_seg dksX2_puts_0 24 rfl rfl
theorem dksX2_puts_2 : cX2_puts.data.toList.drop 47 = dktX2_puts_2 := dk_seg dksX2_puts_1 23 rfl rfl
theorem dX2_puts_0 : decode cX2_puts 0 = .ok (.new 83, 3) := dk_187 0 83 (dk_at dksX2_puts_0 0 rfl rfl)
theorem dX2_puts_3 : decode cX2_puts 3 = .ok (.dup, 1) := dk_89 (dk_at dksX2_puts_0 3 rfl rfl)
theorem dX2_puts_4 : decode cX2_puts 4 = .ok (.aload_n 0, 1) := dk_42 (dk_at dksX2_puts_0 4 rfl rfl)
theorem dX2_puts_5 : decode cX2_puts 5 = .ok (.getfield 20, 3) := dk_180 0 20 (dk_at dksX2_puts_0 5 rfl rfl)
theorem dX2_puts_8 : decode cX2_puts 8 = .ok (.invokeinterface 51 1, 5) := by decide +kernel
theorem dX2_puts_13 : decode cX2_puts 13 = .ok (.iload_n 1, 1) := dk_27 (dk_at dksX2_puts_0 13 rfl rfl)
theorem dX2_puts_14 : decode cX2_puts 14 = .ok (.iload_n 2, 1) := dk_28 (dk_at dksX2_puts_0 14 rfl rfl)
theorem dX2_puts_15 : decode cX2_puts 15 = .ok (.aload_n 0, 1) := dk_42 (dk_at dksX2_puts_0 15 rfl rfl)
theorem dX2_puts_16 : decode cX2_puts 16 = .ok (.getfield 34, 3) := dk_180 0 34 (dk_at dksX2_puts_0 16 rfl rfl)
theorem dX2_puts_19 : decode cX2_puts 19 = .ok (.invokespecial 185, 3) := dk_183 0 185 (dk_at dksX2_puts_0 19 rfl rfl)
theorem dX2_puts_22 : decode cX2_puts 22 = .ok (.astore_n 3, 1) := dk_78 (dk_at dksX2_puts_0 22 rfl rfl)
theorem dX2_puts_23 : decode cX2_puts 23 = .ok (.aload_n 0, 1) := dk_42 (dk_at dksX2_puts_0 23 rfl rfl)
theorem dX2_puts_24 : decode cX2_puts 24 = .ok (.getfield 20, 3) := dk_180 0 20 (dk_at dksX2_puts_1 0 rfl rfl)
theorem dX2_puts_27 : decode cX2_puts 27 = .ok (.aload_n 3, 1) := dk_45 (dk_at dksX2_puts_1 3 rfl rfl)
theorem dX2_puts_28 : decode cX2_puts 28 = .ok (.invokeinterface 66 2, 5) := by decide +kernel
theorem dX2_puts_33 : decode cX2_puts 33 = .ok (.pop, 1) := dk_87 (dk_at dksX2_puts_1 9 rfl rfl)
theorem dX2_puts_34 : decode cX2_puts 34 = .ok (.aload_n 0, 1) := dk_42 (dk_at dksX2_puts_1 10 rfl rfl)
theorem dX2_puts_35 : decode cX2_puts 35 = .ok (.getfield 44, 3) := dk_180 0 44 (dk_at dksX2_puts_1 11 rfl rfl)
theorem dX2_puts_38 : decode cX2_puts 38 = .ok (.aload_n 0, 1) := dk_42 (dk_at dksX2_puts_1 14 rfl rfl)
theorem dX2_puts_39 : decode cX2_puts 39 = .ok (.getfield 34, 3) := dk_180 0 34 (dk_at dksX2_puts_1 15 rfl rfl)
theorem dX2_puts_42 : decode cX2_puts 42 = .ok (.aload_n 3, 1) := dk_45 (dk_at dksX2_puts_1 18 rfl rfl)
theorem dX2_puts_43 : decode cX2_puts 43 = .ok (.invokevirtual 108, 3) := dk_182 0 108 (dk_at dksX2_puts_1 19 rfl rfl)
theorem dX2_puts_46 : decode cX2_puts 46 = .ok (.aload_n 0, 1) := dk_42 (dk_at dksX2_puts_1 22 rfl rfl)
theorem dX2_puts_47 : decode cX2_puts 47 = .ok (.getfield 23, 3) := dk_180 0 23 (dk_at dksX2_puts_2 0 rfl rfl)
theorem dX2_puts_50 : decode cX2_puts 50 = .ok (.iconst 1, 1) := dk_4 (dk_at dksX2_puts_2 3 rfl rfl)
theorem dX2_puts_51 : decode cX2_puts 51 = .ok (.dup2, 1) := dk_92 (dk_at dksX2_puts_2 4 rfl rfl)
theorem dX2_puts_52 : decode cX2_puts 52 = .ok (.iaload, 1) := dk_46 (dk_at dksX2_puts_2 5 rfl rfl)
theorem dX2_puts_53 : decode cX2_puts 53 = .ok (.iconst 1, 1) := dk_4 (dk_at dksX2_puts_2 6 rfl rfl)
theorem dX2_puts_54 : decode cX2_puts 54 = .ok (.iadd, 1) := dk_96 (dk_at dksX2_puts_2 7 rfl rfl)
theorem dX2_puts_55 : decode cX2_puts 55 = .ok (.iastore, 1) := dk_79 (dk_at dksX2_puts_2 8 rfl rfl)
theorem dX2_puts_56 : decode cX2_puts 56 = .ok (.aload_n 3, 1) := dk_45 (dk_at dksX2_puts_2 9 rfl rfl)
theorem dX2_puts_57 : decode cX2_puts 57 = .ok (.getfield 144, 3) := dk_180 0 144 (dk_at dksX2_puts_2 10 rfl rfl)
theorem dX2_puts_60 : decode cX2_puts 60 = .ok (.ireturn, 1) := dk_172 (dk_at dksX2_puts_2 13 rfl rfl)
abbrev cX2_sets : ByteArray := prog_5_method_27_code
def yX2_sets : MethodName := ⟨RX2, "sets", "(II)I"⟩
def dkwX2_sets_1 : List UInt8 := [160, 0, 11, 42, 28, 181, 0, 27, 167, 0, 12, 42, 27, 182, 0, 59, 28, 181, 0, 147, 29, 172]
abbrev dktX2_sets_1 : List UInt8 := dkwX2_sets_1 ++ []
def dkwX2_sets_0 : List UInt8 := [27, 2, 160, 0, 10, 42, 180, 0, 27, 167, 0, 11, 42, 27, 182, 0, 59, 180, 0, 147, 62, 27, 2]
abbrev dktX2_sets_0 : List UInt8 := dkwX2_sets_0 ++ dktX2_sets_1
theorem dksX2_sets_0 : cX2_sets.data.toList.drop 0 = dktX2_sets_0 := by decide +kernel
theorem dksX2_sets_1 : cX2_sets.data.toList.drop 23 = dktX2_sets_1 := dk_seg dksX2_sets_0 23 rfl rfl
theorem dX2_sets_0 : decode cX2_sets 0 = .ok (.iload_n 1, 1) := dk_27 (dk_at dksX2_sets_0 0 rfl rfl)
theorem dX2_sets_1 : decode cX2_sets 1 = .ok (.iconst (-1), 1) := dk_2 (dk_at dksX2_sets_0 1 rfl rfl)
theorem dX2_sets_2 : decode cX2_sets 2 = .ok (.if_icmp .ne 10, 3) := dk_160 0 10 (dk_at dksX2_sets_0 2 rfl rfl)
theorem dX2_sets_5 : decode cX2_sets 5 = .ok (.aload_n 0, 1) := dk_42 (dk_at dksX2_sets_0 5 rfl rfl)
theorem dX2_sets_6 : decode cX2_sets 6 = .ok (.getfield 27, 3) := dk_180 0 27 (dk_at dksX2_sets_0 6 rfl rfl)
theorem dX2_sets_9 : decode cX2_sets 9 = .ok (.goto 11, 3) := dk_167 0 11 (dk_at dksX2_sets_0 9 rfl rfl)
theorem dX2_sets_12 : decode cX2_sets 12 = .ok (.aload_n 0, 1) := dk_42 (dk_at dksX2_sets_0 12 rfl rfl)
theorem dX2_sets_13 : decode cX2_sets 13 = .ok (.iload_n 1, 1) := dk_27 (dk_at dksX2_sets_0 13 rfl rfl)
theorem dX2_sets_14 : decode cX2_sets 14 = .ok (.invokevirtual 59, 3) := dk_182 0 59 (dk_at dksX2_sets_0 14 rfl rfl)
theorem dX2_sets_17 : decode cX2_sets 17 = .ok (.getfield 147, 3) := dk_180 0 147 (dk_at dksX2_sets_0 17 rfl rfl)
theorem dX2_sets_20 : decode cX2_sets 20 = .ok (.istore_n 3, 1) := dk_62 (dk_at dksX2_sets_0 20 rfl rfl)
theorem dX2_sets_21 : decode cX2_sets 21 = .ok (.iload_n 1, 1) := dk_27 (dk_at dksX2_sets_0 21 rfl rfl)
theorem dX2_sets_22 : decode cX2_sets 22 = .ok (.iconst (-1), 1) := dk_2 (dk_at dksX2_sets_0 22 rfl rfl)
theorem dX2_sets_23 : decode cX2_sets 23 = .ok (.if_icmp .ne 11, 3) := dk_160 0 11 (dk_at dksX2_sets_1 0 rfl rfl)
theorem dX2_sets_26 : decode cX2_sets 26 = .ok (.aload_n 0, 1) := dk_42 (dk_at dksX2_sets_1 3 rfl rfl)
theorem dX2_sets_27 : decode cX2_sets 27 = .ok (.iload_n 2, 1) := dk_28 (dk_at dksX2_sets_1 4 rfl rfl)
theorem dX2_sets_28 : decode cX2_sets 28 = .ok (.putfield 27, 3) := dk_181 0 27 (dk_at dksX2_sets_1 5 rfl rfl)
theorem dX2_sets_31 : decode cX2_sets 31 = .ok (.goto 12, 3) := dk_167 0 12 (dk_at dksX2_sets_1 8 rfl rfl)
theorem dX2_sets_34 : decode cX2_sets 34 = .ok (.aload_n 0, 1) := dk_42 (dk_at dksX2_sets_1 11 rfl rfl)
theorem dX2_sets_35 : decode cX2_sets 35 = .ok (.iload_n 1, 1) := dk_27 (dk_at dksX2_sets_1 12 rfl rfl)
theorem dX2_sets_36 : decode cX2_sets 36 = .ok (.invokevirtual 59, 3) := dk_182 0 59 (dk_at dksX2_sets_1 13 rfl rfl)
theorem dX2_sets_39 : decode cX2_sets 39 = .ok (.iload_n 2, 1) := dk_28 (dk_at dksX2_sets_1 16 rfl rfl)
theorem dX2_sets_40 : decode cX2_sets 40 = .ok (.putfield 147, 3) := dk_181 0 147 (dk_at dksX2_sets_1 17 rfl rfl)
theorem dX2_sets_43 : decode cX2_sets 43 = .ok (.iload_n 3, 1) := dk_29 (dk_at dksX2_sets_1 20 rfl rfl)
theorem dX2_sets_44 : decode cX2_sets 44 = .ok (.ireturn, 1) := dk_172 (dk_at dksX2_sets_1 21 rfl rfl)
abbrev cX2_againstSlip : ByteArray := prog_5_method_14_code
def yX2_againstSlip : MethodName := ⟨RX2, "againstSlip", "(LSortingLoop$Parcel;)I"⟩
def dkwX2_againstSlip_1 : List UInt8 := [180, 0, 105, 4, 100, 182, 0, 181, 153, 0, 7, 3, 167, 0, 4, 6, 172]
abbrev dktX2_againstSlip_1 : List UInt8 := dkwX2_againstSlip_1 ++ []
def dkwX2_againstSlip_0 : List UInt8 := [43, 182, 0, 101, 154, 0, 5, 4, 172, 43, 180, 0, 105, 154, 0, 5, 5, 172, 42, 180, 0, 44, 43]
abbrev dktX2_againstSlip_0 : List UInt8 := dkwX2_againstSlip_0 ++ dktX2_againstSlip_1
theorem dksX2_againstSlip_0 : cX2_againstSlip.data.toList.drop 0 = dktX2_againstSlip_0 := by decide +kernel
theorem dksX2_againstSlip_1 : cX2_againstSlip.data.toList.drop 23 = dktX2_againstSlip_1 := dk_seg dksX2_againstSlip_0 23 rfl rfl
theorem dX2_againstSlip_0 : decode cX2_againstSlip 0 = .ok (.aload_n 1, 1) := dk_43 (dk_at dksX2_againstSlip_0 0 rfl rfl)
theorem dX2_againstSlip_1 : decode cX2_againstSlip 1 = .ok (.invokevirtual 101, 3) := dk_182 0 101 (dk_at dksX2_againstSlip_0 1 rfl rfl)
theorem dX2_againstSlip_4 : decode cX2_againstSlip 4 = .ok (.ifCond .ne 5, 3) := dk_154 0 5 (dk_at dksX2_againstSlip_0 4 rfl rfl)
theorem dX2_againstSlip_7 : decode cX2_againstSlip 7 = .ok (.iconst 1, 1) := dk_4 (dk_at dksX2_againstSlip_0 7 rfl rfl)
theorem dX2_againstSlip_8 : decode cX2_againstSlip 8 = .ok (.ireturn, 1) := dk_172 (dk_at dksX2_againstSlip_0 8 rfl rfl)
theorem dX2_againstSlip_9 : decode cX2_againstSlip 9 = .ok (.aload_n 1, 1) := dk_43 (dk_at dksX2_againstSlip_0 9 rfl rfl)
theorem dX2_againstSlip_10 : decode cX2_againstSlip 10 = .ok (.getfield 105, 3) := dk_180 0 105 (dk_at dksX2_againstSlip_0 10 rfl rfl)
theorem dX2_againstSlip_13 : decode cX2_againstSlip 13 = .ok (.ifCond .ne 5, 3) := dk_154 0 5 (dk_at dksX2_againstSlip_0 13 rfl rfl)
theorem dX2_againstSlip_16 : decode cX2_againstSlip 16 = .ok (.iconst 2, 1) := dk_5 (dk_at dksX2_againstSlip_0 16 rfl rfl)
theorem dX2_againstSlip_17 : decode cX2_againstSlip 17 = .ok (.ireturn, 1) := dk_172 (dk_at dksX2_againstSlip_0 17 rfl rfl)
theorem dX2_againstSlip_18 : decode cX2_againstSlip 18 = .ok (.aload_n 0, 1) := dk_42 (dk_at dksX2_againstSlip_0 18 rfl rfl)
theorem dX2_againstSlip_19 : decode cX2_againstSlip 19 = .ok (.getfield 44, 3) := dk_180 0 44 (dk_at dksX2_againstSlip_0 19 rfl rfl)
theorem dX2_againstSlip_22 : decode cX2_againstSlip 22 = .ok (.aload_n 1, 1) := dk_43 (dk_at dksX2_againstSlip_0 22 rfl rfl)
theorem dX2_againstSlip_23 : decode cX2_againstSlip 23 = .ok (.getfield 105, 3) := dk_180 0 105 (dk_at dksX2_againstSlip_1 0 rfl rfl)
theorem dX2_againstSlip_26 : decode cX2_againstSlip 26 = .ok (.iconst 1, 1) := dk_4 (dk_at dksX2_againstSlip_1 3 rfl rfl)
theorem dX2_againstSlip_27 : decode cX2_againstSlip 27 = .ok (.isub, 1) := dk_100 (dk_at dksX2_againstSlip_1 4 rfl rfl)
theorem dX2_againstSlip_28 : decode cX2_againstSlip 28 = .ok (.invokevirtual 181, 3) := dk_182 0 181 (dk_at dksX2_againstSlip_1 5 rfl rfl)
theorem dX2_againstSlip_31 : decode cX2_againstSlip 31 = .ok (.ifCond .eq 7, 3) := dk_153 0 7 (dk_at dksX2_againstSlip_1 8 rfl rfl)
theorem dX2_againstSlip_34 : decode cX2_againstSlip 34 = .ok (.iconst 0, 1) := dk_3 (dk_at dksX2_againstSlip_1 11 rfl rfl)
theorem dX2_againstSlip_35 : decode cX2_againstSlip 35 = .ok (.goto 4, 3) := dk_167 0 4 (dk_at dksX2_againstSlip_1 12 rfl rfl)
theorem dX2_againstSlip_38 : decode cX2_againstSlip 38 = .ok (.iconst 3, 1) := dk_6 (dk_at dksX2_againstSlip_1 15 rfl rfl)
theorem dX2_againstSlip_39 : decode cX2_againstSlip 39 = .ok (.ireturn, 1) := dk_172 (dk_at dksX2_againstSlip_1 16 rfl rfl)
abbrev cX2_slips : ByteArray := prog_5_method_15_code
def yX2_slips : MethodName := ⟨RX2, "slips", "(LSortingLoop$Parcel;)I"⟩
def dkwX2_slips_2 : List UInt8 := [96, 79, 43, 180, 0, 105, 172]
abbrev dktX2_slips_2 : List UInt8 := dkwX2_slips_2 ++ []
def dkwX2_slips_1 : List UInt8 := [181, 0, 188, 42, 180, 0, 44, 43, 180, 0, 105, 43, 182, 0, 108, 42, 180, 0, 23, 16, 11, 92, 46, 4]
abbrev dktX2_slips_1 : List UInt8 := dkwX2_slips_1 ++ dktX2_slips_2
def dkwX2_slips_0 : List UInt8 := [42, 180, 0, 44, 43, 180, 0, 105, 1, 182, 0, 108, 43, 89, 180, 0, 105, 4, 100, 181, 0, 105, 43, 4]
abbrev dktX2_slips_0 : List UInt8 := dkwX2_slips_0 ++ dktX2_slips_1
theorem dksX2_slips_0 : cX2_slips.data.toList.drop 0 = dktX2_slips_0 := by decide +kernel
theorem dksX2_slips_1 : cX2_slips.data.toList.drop 24 = dktX2_slips_1 := dk_seg dksX2_slips_0 24 rfl rfl
theorem dksX2_slips_2 : cX2_slips.data.toList.drop 48 = dktX2_slips_2 := dk_seg dksX2_slips_1 24 rfl rfl
theorem dX2_slips_0 : decode cX2_slips 0 = .ok (.aload_n 0, 1) := dk_42 (dk_at dksX2_slips_0 0 rfl rfl)
theorem dX2_slips_1 : decode cX2_slips 1 = .ok (.getfield 44, 3) := dk_180 0 44 (dk_at dksX2_slips_0 1 rfl rfl)
theorem dX2_slips_4 : decode cX2_slips 4 = .ok (.aload_n 1, 1) := dk_43 (dk_at dksX2_slips_0 4 rfl rfl)
theorem dX2_slips_5 : decode cX2_slips 5 = .ok (.getfield 105, 3) := dk_180 0 105 (dk_at dksX2_slips_0 5 rfl rfl)
theorem dX2_slips_8 : decode cX2_slips 8 = .ok (.aconst_null, 1) := dk_1 (dk_at dksX2_slips_0 8 rfl rfl)
theorem dX2_slips_9 : decode cX2_slips 9 = .ok (.invokevirtual 108, 3) := dk_182 0 108 (dk_at dksX2_slips_0 9 rfl rfl)
theorem dX2_slips_12 : decode cX2_slips 12 = .ok (.aload_n 1, 1) := dk_43 (dk_at dksX2_slips_0 12 rfl rfl)
theorem dX2_slips_13 : decode cX2_slips 13 = .ok (.dup, 1) := dk_89 (dk_at dksX2_slips_0 13 rfl rfl)
theorem dX2_slips_14 : decode cX2_slips 14 = .ok (.getfield 105, 3) := dk_180 0 105 (dk_at dksX2_slips_0 14 rfl rfl)
theorem dX2_slips_17 : decode cX2_slips 17 = .ok (.iconst 1, 1) := dk_4 (dk_at dksX2_slips_0 17 rfl rfl)
theorem dX2_slips_18 : decode cX2_slips 18 = .ok (.isub, 1) := dk_100 (dk_at dksX2_slips_0 18 rfl rfl)
theorem dX2_slips_19 : decode cX2_slips 19 = .ok (.putfield 105, 3) := dk_181 0 105 (dk_at dksX2_slips_0 19 rfl rfl)
theorem dX2_slips_22 : decode cX2_slips 22 = .ok (.aload_n 1, 1) := dk_43 (dk_at dksX2_slips_0 22 rfl rfl)
theorem dX2_slips_23 : decode cX2_slips 23 = .ok (.iconst 1, 1) := dk_4 (dk_at dksX2_slips_0 23 rfl rfl)
theorem dX2_slips_24 : decode cX2_slips 24 = .ok (.putfield 188, 3) := dk_181 0 188 (dk_at dksX2_slips_1 0 rfl rfl)
theorem dX2_slips_27 : decode cX2_slips 27 = .ok (.aload_n 0, 1) := dk_42 (dk_at dksX2_slips_1 3 rfl rfl)
theorem dX2_slips_28 : decode cX2_slips 28 = .ok (.getfield 44, 3) := dk_180 0 44 (dk_at dksX2_slips_1 4 rfl rfl)
theorem dX2_slips_31 : decode cX2_slips 31 = .ok (.aload_n 1, 1) := dk_43 (dk_at dksX2_slips_1 7 rfl rfl)
theorem dX2_slips_32 : decode cX2_slips 32 = .ok (.getfield 105, 3) := dk_180 0 105 (dk_at dksX2_slips_1 8 rfl rfl)
theorem dX2_slips_35 : decode cX2_slips 35 = .ok (.aload_n 1, 1) := dk_43 (dk_at dksX2_slips_1 11 rfl rfl)
theorem dX2_slips_36 : decode cX2_slips 36 = .ok (.invokevirtual 108, 3) := dk_182 0 108 (dk_at dksX2_slips_1 12 rfl rfl)
theorem dX2_slips_39 : decode cX2_slips 39 = .ok (.aload_n 0, 1) := dk_42 (dk_at dksX2_slips_1 15 rfl rfl)
theorem dX2_slips_40 : decode cX2_slips 40 = .ok (.getfield 23, 3) := dk_180 0 23 (dk_at dksX2_slips_1 16 rfl rfl)
theorem dX2_slips_43 : decode cX2_slips 43 = .ok (.bipush 11, 2) := dk_16 11 (dk_at dksX2_slips_1 19 rfl rfl)
theorem dX2_slips_45 : decode cX2_slips 45 = .ok (.dup2, 1) := dk_92 (dk_at dksX2_slips_1 21 rfl rfl)
theorem dX2_slips_46 : decode cX2_slips 46 = .ok (.iaload, 1) := dk_46 (dk_at dksX2_slips_1 22 rfl rfl)
theorem dX2_slips_47 : decode cX2_slips 47 = .ok (.iconst 1, 1) := dk_4 (dk_at dksX2_slips_1 23 rfl rfl)
theorem dX2_slips_48 : decode cX2_slips 48 = .ok (.iadd, 1) := dk_96 (dk_at dksX2_slips_2 0 rfl rfl)
theorem dX2_slips_49 : decode cX2_slips 49 = .ok (.iastore, 1) := dk_79 (dk_at dksX2_slips_2 1 rfl rfl)
theorem dX2_slips_50 : decode cX2_slips 50 = .ok (.aload_n 1, 1) := dk_43 (dk_at dksX2_slips_2 2 rfl rfl)
theorem dX2_slips_51 : decode cX2_slips 51 = .ok (.getfield 105, 3) := dk_180 0 105 (dk_at dksX2_slips_2 3 rfl rfl)
theorem dX2_slips_54 : decode cX2_slips 54 = .ok (.ireturn, 1) := dk_172 (dk_at dksX2_slips_2 6 rfl rfl)
abbrev cX2_goes : ByteArray := prog_5_method_24_code
def yX2_goes : MethodName := ⟨RX2, "goes", "(I)I"⟩
def dkwX2_goes_0 : List UInt8 := [3, 61, 3, 62, 29, 27, 162, 0, 16, 28, 42, 182, 0, 250, 96, 61, 132, 3, 1, 167, 255, 241, 28, 172]
abbrev dktX2_goes_0 : List UInt8 := dkwX2_goes_0 ++ []
theorem dksX2_goes_0 : cX2_goes.data.toList.drop 0 = dktX2_goes_0 := by decide +kernel
theorem dX2_goes_0 : decode cX2_goes 0 = .ok (.iconst 0, 1) := dk_3 (dk_at dksX2_goes_0 0 rfl rfl)
theorem dX2_goes_1 : decode cX2_goes 1 = .ok (.istore_n 2, 1) := dk_61 (dk_at dksX2_goes_0 1 rfl rfl)
theorem dX2_goes_2 : decode cX2_goes 2 = .ok (.iconst 0, 1) := dk_3 (dk_at dksX2_goes_0 2 rfl rfl)
theorem dX2_goes_3 : decode cX2_goes 3 = .ok (.istore_n 3, 1) := dk_62 (dk_at dksX2_goes_0 3 rfl rfl)
theorem dX2_goes_4 : decode cX2_goes 4 = .ok (.iload_n 3, 1) := dk_29 (dk_at dksX2_goes_0 4 rfl rfl)
theorem dX2_goes_5 : decode cX2_goes 5 = .ok (.iload_n 1, 1) := dk_27 (dk_at dksX2_goes_0 5 rfl rfl)
theorem dX2_goes_6 : decode cX2_goes 6 = .ok (.if_icmp .ge 16, 3) := dk_162 0 16 (dk_at dksX2_goes_0 6 rfl rfl)
theorem dX2_goes_9 : decode cX2_goes 9 = .ok (.iload_n 2, 1) := dk_28 (dk_at dksX2_goes_0 9 rfl rfl)
theorem dX2_goes_10 : decode cX2_goes 10 = .ok (.aload_n 0, 1) := dk_42 (dk_at dksX2_goes_0 10 rfl rfl)
theorem dX2_goes_11 : decode cX2_goes 11 = .ok (.invokevirtual 250, 3) := dk_182 0 250 (dk_at dksX2_goes_0 11 rfl rfl)
theorem dX2_goes_14 : decode cX2_goes 14 = .ok (.iadd, 1) := dk_96 (dk_at dksX2_goes_0 14 rfl rfl)
theorem dX2_goes_15 : decode cX2_goes 15 = .ok (.istore_n 2, 1) := dk_61 (dk_at dksX2_goes_0 15 rfl rfl)
theorem dX2_goes_16 : decode cX2_goes 16 = .ok (.iinc 3 1, 3) := dk_132 3 1 (dk_at dksX2_goes_0 16 rfl rfl)
theorem dX2_goes_19 : decode cX2_goes 19 = .ok (.goto (-15), 3) := dk_167 255 241 (dk_at dksX2_goes_0 19 rfl rfl)
theorem dX2_goes_22 : decode cX2_goes 22 = .ok (.iload_n 2, 1) := dk_28 (dk_at dksX2_goes_0 22 rfl rfl)
theorem dX2_goes_23 : decode cX2_goes 23 = .ok (.ireturn, 1) := dk_172 (dk_at dksX2_goes_0 23 rfl rfl)
abbrev cX2_ticks : ByteArray := prog_5_method_23_code
def yX2_ticks : MethodName := ⟨RX2, "ticks", "()I"⟩
def dkwX2_ticks_8 : List UInt8 := [132, 3, 1, 167, 255, 209, 132, 2, 1, 167, 255, 188, 27, 42, 3, 182, 0, 230, 100, 172]
abbrev dktX2_ticks_8 : List UInt8 := dkwX2_ticks_8 ++ []
def dkwX2_ticks_7 : List UInt8 := [182, 0, 78, 182, 0, 243, 153, 0, 17, 42, 42, 28, 182, 0, 59, 42, 29, 182, 0, 78, 182, 0, 247]
abbrev dktX2_ticks_7 : List UInt8 := dkwX2_ticks_7 ++ dktX2_ticks_8
def dkwX2_ticks_6 : List UInt8 := [3, 62, 29, 42, 180, 0, 20, 185, 0, 51, 1, 0, 162, 0, 40, 42, 42, 28, 182, 0, 59, 42, 29]
abbrev dktX2_ticks_6 : List UInt8 := dkwX2_ticks_6 ++ dktX2_ticks_7
def dkwX2_ticks_5 : List UInt8 := [182, 0, 240, 132, 2, 1, 167, 255, 210, 3, 61, 28, 42, 180, 0, 14, 185, 0, 51, 1, 0, 162, 0, 61]
abbrev dktX2_ticks_5 : List UInt8 := dkwX2_ticks_5 ++ dktX2_ticks_6
def dkwX2_ticks_4 : List UInt8 := [180, 0, 44, 28, 182, 0, 181, 154, 0, 18, 42, 42, 180, 0, 44, 28, 182, 0, 194, 192, 0, 83]
abbrev dktX2_ticks_4 : List UInt8 := dkwX2_ticks_4 ++ dktX2_ticks_5
def dkwX2_ticks_3 : List UInt8 := [182, 0, 239, 3, 61, 28, 42, 180, 0, 31, 162, 0, 44, 42, 180, 0, 37, 28, 51, 153, 0, 29, 42]
abbrev dktX2_ticks_3 : List UInt8 := dkwX2_ticks_3 ++ dktX2_ticks_4
def dkwX2_ticks_2 : List UInt8 := [28, 182, 0, 59, 180, 0, 150, 4, 100, 184, 0, 234, 181, 0, 150, 132, 2, 1, 167, 255, 218, 42]
abbrev dktX2_ticks_2 : List UInt8 := dkwX2_ticks_2 ++ dktX2_ticks_3
def dkwX2_ticks_1 : List UInt8 := [96, 79, 3, 61, 28, 42, 180, 0, 14, 185, 0, 51, 1, 0, 162, 0, 31, 42, 28, 182, 0, 59, 3, 42]
abbrev dktX2_ticks_1 : List UInt8 := dkwX2_ticks_1 ++ dktX2_ticks_2
def dkwX2_ticks_0 : List UInt8 := [42, 3, 182, 0, 230, 60, 42, 89, 180, 0, 122, 4, 96, 181, 0, 122, 42, 180, 0, 23, 3, 92, 46, 4]
abbrev dktX2_ticks_0 : List UInt8 := dkwX2_ticks_0 ++ dktX2_ticks_1
theorem dksX2_ticks_0 : cX2_ticks.data.toList.drop 0 = dktX2_ticks_0 := by decide +kernel
theorem dksX2_ticks_1 : cX2_ticks.data.toList.drop 24 = dktX2_ticks_1 := dk_seg dksX2_ticks_0 24 rfl rfl
theorem dksX2_ticks_2 : cX2_ticks.data.toList.drop 48 = dktX2_ticks_2 := dk_seg dksX2_ticks_1 24 rfl rfl
theorem dksX2_ticks_3 : cX2_ticks.data.toList.drop 70 = dktX2_ticks_3 := dk_seg dksX2_ticks_2 22 rfl rfl
theorem dksX2_ticks_4 : cX2_ticks.data.toList.drop 93 = dktX2_ticks_4 := dk_seg dksX2_ticks_3 23 rfl rfl
theorem dksX2_ticks_5 : cX2_ticks.data.toList.drop 115 = dktX2_ticks_5 := dk_seg dksX2_ticks_4 22 rfl rfl
theorem dksX2_ticks_6 : cX2_ticks.data.toList.drop 139 = dktX2_ticks_6 := dk_seg dksX2_ticks_5 24 rfl rfl
theorem dksX2_ticks_7 : cX2_ticks.data.toList.drop 162 = dktX2_ticks_7 := dk_seg dksX2_ticks_6 23 rfl rfl
theorem dksX2_ticks_8 : cX2_ticks.data.toList.drop 185 = dktX2_ticks_8 := dk_seg dksX2_ticks_7 23 rfl rfl
theorem dX2_ticks_0 : decode cX2_ticks 0 = .ok (.aload_n 0, 1) := dk_42 (dk_at dksX2_ticks_0 0 rfl rfl)
theorem dX2_ticks_1 : decode cX2_ticks 1 = .ok (.iconst 0, 1) := dk_3 (dk_at dksX2_ticks_0 1 rfl rfl)
theorem dX2_ticks_2 : decode cX2_ticks 2 = .ok (.invokevirtual 230, 3) := dk_182 0 230 (dk_at dksX2_ticks_0 2 rfl rfl)
theorem dX2_ticks_5 : decode cX2_ticks 5 = .ok (.istore_n 1, 1) := dk_60 (dk_at dksX2_ticks_0 5 rfl rfl)
theorem dX2_ticks_6 : decode cX2_ticks 6 = .ok (.aload_n 0, 1) := dk_42 (dk_at dksX2_ticks_0 6 rfl rfl)
theorem dX2_ticks_7 : decode cX2_ticks 7 = .ok (.dup, 1) := dk_89 (dk_at dksX2_ticks_0 7 rfl rfl)
theorem dX2_ticks_8 : decode cX2_ticks 8 = .ok (.getfield 122, 3) := dk_180 0 122 (dk_at dksX2_ticks_0 8 rfl rfl)
theorem dX2_ticks_11 : decode cX2_ticks 11 = .ok (.iconst 1, 1) := dk_4 (dk_at dksX2_ticks_0 11 rfl rfl)
theorem dX2_ticks_12 : decode cX2_ticks 12 = .ok (.iadd, 1) := dk_96 (dk_at dksX2_ticks_0 12 rfl rfl)
theorem dX2_ticks_13 : decode cX2_ticks 13 = .ok (.putfield 122, 3) := dk_181 0 122 (dk_at dksX2_ticks_0 13 rfl rfl)
theorem dX2_ticks_16 : decode cX2_ticks 16 = .ok (.aload_n 0, 1) := dk_42 (dk_at dksX2_ticks_0 16 rfl rfl)
theorem dX2_ticks_17 : decode cX2_ticks 17 = .ok (.getfield 23, 3) := dk_180 0 23 (dk_at dksX2_ticks_0 17 rfl rfl)
theorem dX2_ticks_20 : decode cX2_ticks 20 = .ok (.iconst 0, 1) := dk_3 (dk_at dksX2_ticks_0 20 rfl rfl)
theorem dX2_ticks_21 : decode cX2_ticks 21 = .ok (.dup2, 1) := dk_92 (dk_at dksX2_ticks_0 21 rfl rfl)
theorem dX2_ticks_22 : decode cX2_ticks 22 = .ok (.iaload, 1) := dk_46 (dk_at dksX2_ticks_0 22 rfl rfl)
theorem dX2_ticks_23 : decode cX2_ticks 23 = .ok (.iconst 1, 1) := dk_4 (dk_at dksX2_ticks_0 23 rfl rfl)
theorem dX2_ticks_24 : decode cX2_ticks 24 = .ok (.iadd, 1) := dk_96 (dk_at dksX2_ticks_1 0 rfl rfl)
theorem dX2_ticks_25 : decode cX2_ticks 25 = .ok (.iastore, 1) := dk_79 (dk_at dksX2_ticks_1 1 rfl rfl)
theorem dX2_ticks_26 : decode cX2_ticks 26 = .ok (.iconst 0, 1) := dk_3 (dk_at dksX2_ticks_1 2 rfl rfl)
theorem dX2_ticks_27 : decode cX2_ticks 27 = .ok (.istore_n 2, 1) := dk_61 (dk_at dksX2_ticks_1 3 rfl rfl)
theorem dX2_ticks_28 : decode cX2_ticks 28 = .ok (.iload_n 2, 1) := dk_28 (dk_at dksX2_ticks_1 4 rfl rfl)
theorem dX2_ticks_29 : decode cX2_ticks 29 = .ok (.aload_n 0, 1) := dk_42 (dk_at dksX2_ticks_1 5 rfl rfl)
theorem dX2_ticks_30 : decode cX2_ticks 30 = .ok (.getfield 14, 3) := dk_180 0 14 (dk_at dksX2_ticks_1 6 rfl rfl)
theorem dX2_ticks_33 : decode cX2_ticks 33 = .ok (.invokeinterface 51 1, 5) := by decide +kernel
theorem dX2_ticks_38 : decode cX2_ticks 38 = .ok (.if_icmp .ge 31, 3) := dk_162 0 31 (dk_at dksX2_ticks_1 14 rfl rfl)
theorem dX2_ticks_41 : decode cX2_ticks 41 = .ok (.aload_n 0, 1) := dk_42 (dk_at dksX2_ticks_1 17 rfl rfl)
theorem dX2_ticks_42 : decode cX2_ticks 42 = .ok (.iload_n 2, 1) := dk_28 (dk_at dksX2_ticks_1 18 rfl rfl)
theorem dX2_ticks_43 : decode cX2_ticks 43 = .ok (.invokevirtual 59, 3) := dk_182 0 59 (dk_at dksX2_ticks_1 19 rfl rfl)
theorem dX2_ticks_46 : decode cX2_ticks 46 = .ok (.iconst 0, 1) := dk_3 (dk_at dksX2_ticks_1 22 rfl rfl)
theorem dX2_ticks_47 : decode cX2_ticks 47 = .ok (.aload_n 0, 1) := dk_42 (dk_at dksX2_ticks_1 23 rfl rfl)
theorem dX2_ticks_48 : decode cX2_ticks 48 = .ok (.iload_n 2, 1) := dk_28 (dk_at dksX2_ticks_2 0 rfl rfl)
theorem dX2_ticks_49 : decode cX2_ticks 49 = .ok (.invokevirtual 59, 3) := dk_182 0 59 (dk_at dksX2_ticks_2 1 rfl rfl)
theorem dX2_ticks_52 : decode cX2_ticks 52 = .ok (.getfield 150, 3) := dk_180 0 150 (dk_at dksX2_ticks_2 4 rfl rfl)
theorem dX2_ticks_55 : decode cX2_ticks 55 = .ok (.iconst 1, 1) := dk_4 (dk_at dksX2_ticks_2 7 rfl rfl)
theorem dX2_ticks_56 : decode cX2_ticks 56 = .ok (.isub, 1) := dk_100 (dk_at dksX2_ticks_2 8 rfl rfl)
theorem dX2_ticks_57 : decode cX2_ticks 57 = .ok (.invokestatic 234, 3) := dk_184 0 234 (dk_at dksX2_ticks_2 9 rfl rfl)
theorem dX2_ticks_60 : decode cX2_ticks 60 = .ok (.putfield 150, 3) := dk_181 0 150 (dk_at dksX2_ticks_2 12 rfl rfl)
theorem dX2_ticks_63 : decode cX2_ticks 63 = .ok (.iinc 2 1, 3) := dk_132 2 1 (dk_at dksX2_ticks_2 15 rfl rfl)
theorem dX2_ticks_66 : decode cX2_ticks 66 = .ok (.goto (-38), 3) := dk_167 255 218 (dk_at dksX2_ticks_2 18 rfl rfl)
theorem dX2_ticks_69 : decode cX2_ticks 69 = .ok (.aload_n 0, 1) := dk_42 (dk_at dksX2_ticks_2 21 rfl rfl)
theorem dX2_ticks_70 : decode cX2_ticks 70 = .ok (.invokevirtual 239, 3) := dk_182 0 239 (dk_at dksX2_ticks_3 0 rfl rfl)
theorem dX2_ticks_73 : decode cX2_ticks 73 = .ok (.iconst 0, 1) := dk_3 (dk_at dksX2_ticks_3 3 rfl rfl)
theorem dX2_ticks_74 : decode cX2_ticks 74 = .ok (.istore_n 2, 1) := dk_61 (dk_at dksX2_ticks_3 4 rfl rfl)
theorem dX2_ticks_75 : decode cX2_ticks 75 = .ok (.iload_n 2, 1) := dk_28 (dk_at dksX2_ticks_3 5 rfl rfl)
theorem dX2_ticks_76 : decode cX2_ticks 76 = .ok (.aload_n 0, 1) := dk_42 (dk_at dksX2_ticks_3 6 rfl rfl)
theorem dX2_ticks_77 : decode cX2_ticks 77 = .ok (.getfield 31, 3) := dk_180 0 31 (dk_at dksX2_ticks_3 7 rfl rfl)
theorem dX2_ticks_80 : decode cX2_ticks 80 = .ok (.if_icmp .ge 44, 3) := dk_162 0 44 (dk_at dksX2_ticks_3 10 rfl rfl)
theorem dX2_ticks_83 : decode cX2_ticks 83 = .ok (.aload_n 0, 1) := dk_42 (dk_at dksX2_ticks_3 13 rfl rfl)
theorem dX2_ticks_84 : decode cX2_ticks 84 = .ok (.getfield 37, 3) := dk_180 0 37 (dk_at dksX2_ticks_3 14 rfl rfl)
theorem dX2_ticks_87 : decode cX2_ticks 87 = .ok (.iload_n 2, 1) := dk_28 (dk_at dksX2_ticks_3 17 rfl rfl)
theorem dX2_ticks_88 : decode cX2_ticks 88 = .ok (.baload, 1) := dk_51 (dk_at dksX2_ticks_3 18 rfl rfl)
theorem dX2_ticks_89 : decode cX2_ticks 89 = .ok (.ifCond .eq 29, 3) := dk_153 0 29 (dk_at dksX2_ticks_3 19 rfl rfl)
theorem dX2_ticks_92 : decode cX2_ticks 92 = .ok (.aload_n 0, 1) := dk_42 (dk_at dksX2_ticks_3 22 rfl rfl)
theorem dX2_ticks_93 : decode cX2_ticks 93 = .ok (.getfield 44, 3) := dk_180 0 44 (dk_at dksX2_ticks_4 0 rfl rfl)
theorem dX2_ticks_96 : decode cX2_ticks 96 = .ok (.iload_n 2, 1) := dk_28 (dk_at dksX2_ticks_4 3 rfl rfl)
theorem dX2_ticks_97 : decode cX2_ticks 97 = .ok (.invokevirtual 181, 3) := dk_182 0 181 (dk_at dksX2_ticks_4 4 rfl rfl)
theorem dX2_ticks_100 : decode cX2_ticks 100 = .ok (.ifCond .ne 18, 3) := dk_154 0 18 (dk_at dksX2_ticks_4 7 rfl rfl)
theorem dX2_ticks_103 : decode cX2_ticks 103 = .ok (.aload_n 0, 1) := dk_42 (dk_at dksX2_ticks_4 10 rfl rfl)
theorem dX2_ticks_104 : decode cX2_ticks 104 = .ok (.aload_n 0, 1) := dk_42 (dk_at dksX2_ticks_4 11 rfl rfl)
theorem dX2_ticks_105 : decode cX2_ticks 105 = .ok (.getfield 44, 3) := dk_180 0 44 (dk_at dksX2_ticks_4 12 rfl rfl)
theorem dX2_ticks_108 : decode cX2_ticks 108 = .ok (.iload_n 2, 1) := dk_28 (dk_at dksX2_ticks_4 15 rfl rfl)
theorem dX2_ticks_109 : decode cX2_ticks 109 = .ok (.invokevirtual 194, 3) := dk_182 0 194 (dk_at dksX2_ticks_4 16 rfl rfl)
theorem dX2_ticks_112 : decode cX2_ticks 112 = .ok (.checkcast 83, 3) := dk_192 0 83 (dk_at dksX2_ticks_4 19 rfl rfl)
theorem dX2_ticks_115 : decode cX2_ticks 115 = .ok (.invokevirtual 240, 3) := dk_182 0 240 (dk_at dksX2_ticks_5 0 rfl rfl)
theorem dX2_ticks_118 : decode cX2_ticks 118 = .ok (.iinc 2 1, 3) := dk_132 2 1 (dk_at dksX2_ticks_5 3 rfl rfl)
theorem dX2_ticks_121 : decode cX2_ticks 121 = .ok (.goto (-46), 3) := dk_167 255 210 (dk_at dksX2_ticks_5 6 rfl rfl)
theorem dX2_ticks_124 : decode cX2_ticks 124 = .ok (.iconst 0, 1) := dk_3 (dk_at dksX2_ticks_5 9 rfl rfl)
theorem dX2_ticks_125 : decode cX2_ticks 125 = .ok (.istore_n 2, 1) := dk_61 (dk_at dksX2_ticks_5 10 rfl rfl)
theorem dX2_ticks_126 : decode cX2_ticks 126 = .ok (.iload_n 2, 1) := dk_28 (dk_at dksX2_ticks_5 11 rfl rfl)
theorem dX2_ticks_127 : decode cX2_ticks 127 = .ok (.aload_n 0, 1) := dk_42 (dk_at dksX2_ticks_5 12 rfl rfl)
theorem dX2_ticks_128 : decode cX2_ticks 128 = .ok (.getfield 14, 3) := dk_180 0 14 (dk_at dksX2_ticks_5 13 rfl rfl)
theorem dX2_ticks_131 : decode cX2_ticks 131 = .ok (.invokeinterface 51 1, 5) := by decide +kernel
theorem dX2_ticks_136 : decode cX2_ticks 136 = .ok (.if_icmp .ge 61, 3) := dk_162 0 61 (dk_at dksX2_ticks_5 21 rfl rfl)
theorem dX2_ticks_139 : decode cX2_ticks 139 = .ok (.iconst 0, 1) := dk_3 (dk_at dksX2_ticks_6 0 rfl rfl)
theorem dX2_ticks_140 : decode cX2_ticks 140 = .ok (.istore_n 3, 1) := dk_62 (dk_at dksX2_ticks_6 1 rfl rfl)
theorem dX2_ticks_141 : decode cX2_ticks 141 = .ok (.iload_n 3, 1) := dk_29 (dk_at dksX2_ticks_6 2 rfl rfl)
theorem dX2_ticks_142 : decode cX2_ticks 142 = .ok (.aload_n 0, 1) := dk_42 (dk_at dksX2_ticks_6 3 rfl rfl)
theorem dX2_ticks_143 : decode cX2_ticks 143 = .ok (.getfield 20, 3) := dk_180 0 20 (dk_at dksX2_ticks_6 4 rfl rfl)
theorem dX2_ticks_146 : decode cX2_ticks 146 = .ok (.invokeinterface 51 1, 5) := by decide +kernel
theorem dX2_ticks_151 : decode cX2_ticks 151 = .ok (.if_icmp .ge 40, 3) := dk_162 0 40 (dk_at dksX2_ticks_6 12 rfl rfl)
theorem dX2_ticks_154 : decode cX2_ticks 154 = .ok (.aload_n 0, 1) := dk_42 (dk_at dksX2_ticks_6 15 rfl rfl)
theorem dX2_ticks_155 : decode cX2_ticks 155 = .ok (.aload_n 0, 1) := dk_42 (dk_at dksX2_ticks_6 16 rfl rfl)
theorem dX2_ticks_156 : decode cX2_ticks 156 = .ok (.iload_n 2, 1) := dk_28 (dk_at dksX2_ticks_6 17 rfl rfl)
theorem dX2_ticks_157 : decode cX2_ticks 157 = .ok (.invokevirtual 59, 3) := dk_182 0 59 (dk_at dksX2_ticks_6 18 rfl rfl)
theorem dX2_ticks_160 : decode cX2_ticks 160 = .ok (.aload_n 0, 1) := dk_42 (dk_at dksX2_ticks_6 21 rfl rfl)
theorem dX2_ticks_161 : decode cX2_ticks 161 = .ok (.iload_n 3, 1) := dk_29 (dk_at dksX2_ticks_6 22 rfl rfl)
theorem dX2_ticks_162 : decode cX2_ticks 162 = .ok (.invokevirtual 78, 3) := dk_182 0 78 (dk_at dksX2_ticks_7 0 rfl rfl)
theorem dX2_ticks_165 : decode cX2_ticks 165 = .ok (.invokevirtual 243, 3) := dk_182 0 243 (dk_at dksX2_ticks_7 3 rfl rfl)
theorem dX2_ticks_168 : decode cX2_ticks 168 = .ok (.ifCond .eq 17, 3) := dk_153 0 17 (dk_at dksX2_ticks_7 6 rfl rfl)
theorem dX2_ticks_171 : decode cX2_ticks 171 = .ok (.aload_n 0, 1) := dk_42 (dk_at dksX2_ticks_7 9 rfl rfl)
theorem dX2_ticks_172 : decode cX2_ticks 172 = .ok (.aload_n 0, 1) := dk_42 (dk_at dksX2_ticks_7 10 rfl rfl)
theorem dX2_ticks_173 : decode cX2_ticks 173 = .ok (.iload_n 2, 1) := dk_28 (dk_at dksX2_ticks_7 11 rfl rfl)
theorem dX2_ticks_174 : decode cX2_ticks 174 = .ok (.invokevirtual 59, 3) := dk_182 0 59 (dk_at dksX2_ticks_7 12 rfl rfl)
theorem dX2_ticks_177 : decode cX2_ticks 177 = .ok (.aload_n 0, 1) := dk_42 (dk_at dksX2_ticks_7 15 rfl rfl)
theorem dX2_ticks_178 : decode cX2_ticks 178 = .ok (.iload_n 3, 1) := dk_29 (dk_at dksX2_ticks_7 16 rfl rfl)
theorem dX2_ticks_179 : decode cX2_ticks 179 = .ok (.invokevirtual 78, 3) := dk_182 0 78 (dk_at dksX2_ticks_7 17 rfl rfl)
theorem dX2_ticks_182 : decode cX2_ticks 182 = .ok (.invokevirtual 247, 3) := dk_182 0 247 (dk_at dksX2_ticks_7 20 rfl rfl)
theorem dX2_ticks_185 : decode cX2_ticks 185 = .ok (.iinc 3 1, 3) := dk_132 3 1 (dk_at dksX2_ticks_8 0 rfl rfl)
theorem dX2_ticks_188 : decode cX2_ticks 188 = .ok (.goto (-47), 3) := dk_167 255 209 (dk_at dksX2_ticks_8 3 rfl rfl)
theorem dX2_ticks_191 : decode cX2_ticks 191 = .ok (.iinc 2 1, 3) := dk_132 2 1 (dk_at dksX2_ticks_8 6 rfl rfl)
theorem dX2_ticks_194 : decode cX2_ticks 194 = .ok (.goto (-68), 3) := dk_167 255 188 (dk_at dksX2_ticks_8 9 rfl rfl)
theorem dX2_ticks_197 : decode cX2_ticks 197 = .ok (.iload_n 1, 1) := dk_27 (dk_at dksX2_ticks_8 12 rfl rfl)
theorem dX2_ticks_198 : decode cX2_ticks 198 = .ok (.aload_n 0, 1) := dk_42 (dk_at dksX2_ticks_8 13 rfl rfl)
theorem dX2_ticks_199 : decode cX2_ticks 199 = .ok (.iconst 0, 1) := dk_3 (dk_at dksX2_ticks_8 14 rfl rfl)
theorem dX2_ticks_200 : decode cX2_ticks 200 = .ok (.invokevirtual 230, 3) := dk_182 0 230 (dk_at dksX2_ticks_8 15 rfl rfl)
theorem dX2_ticks_203 : decode cX2_ticks 203 = .ok (.isub, 1) := dk_100 (dk_at dksX2_ticks_8 18 rfl rfl)
theorem dX2_ticks_204 : decode cX2_ticks 204 = .ok (.ireturn, 1) := dk_172 (dk_at dksX2_ticks_8 19 rfl rfl)
abbrev cX2_those : ByteArray := prog_5_method_11_code
def yX2_those : MethodName := ⟨RX2, "those", "(I)I"⟩
def dkwX2_those_2 : List UInt8 := [172]
abbrev dktX2_those_2 : List UInt8 := dkwX2_those_2 ++ []
def dkwX2_those_1 : List UInt8 := [180, 0, 178, 27, 160, 0, 7, 4, 167, 0, 4, 3, 184, 0, 174, 96, 61, 132, 3, 1, 167, 255, 217, 28]
abbrev dktX2_those_1 : List UInt8 := dkwX2_those_1 ++ dktX2_those_2
def dkwX2_those_0 : List UInt8 := [3, 61, 3, 62, 29, 42, 180, 0, 20, 185, 0, 51, 1, 0, 162, 0, 32, 28, 42, 29, 182, 0, 78]
abbrev dktX2_those_0 : List UInt8 := dkwX2_those_0 ++ dktX2_those_1
theorem dksX2_those_0 : cX2_those.data.toList.drop 0 = dktX2_those_0 := by decide +kernel
theorem dksX2_those_1 : cX2_those.data.toList.drop 23 = dktX2_those_1 := dk_seg dksX2_those_0 23 rfl rfl
theorem dksX2_those_2 : cX2_those.data.toList.drop 47 = dktX2_those_2 := dk_seg dksX2_those_1 24 rfl rfl
theorem dX2_those_0 : decode cX2_those 0 = .ok (.iconst 0, 1) := dk_3 (dk_at dksX2_those_0 0 rfl rfl)
theorem dX2_those_1 : decode cX2_those 1 = .ok (.istore_n 2, 1) := dk_61 (dk_at dksX2_those_0 1 rfl rfl)
theorem dX2_those_2 : decode cX2_those 2 = .ok (.iconst 0, 1) := dk_3 (dk_at dksX2_those_0 2 rfl rfl)
theorem dX2_those_3 : decode cX2_those 3 = .ok (.istore_n 3, 1) := dk_62 (dk_at dksX2_those_0 3 rfl rfl)
theorem dX2_those_4 : decode cX2_those 4 = .ok (.iload_n 3, 1) := dk_29 (dk_at dksX2_those_0 4 rfl rfl)
theorem dX2_those_5 : decode cX2_those 5 = .ok (.aload_n 0, 1) := dk_42 (dk_at dksX2_those_0 5 rfl rfl)
theorem dX2_those_6 : decode cX2_those 6 = .ok (.getfield 20, 3) := dk_180 0 20 (dk_at dksX2_those_0 6 rfl rfl)
theorem dX2_those_9 : decode cX2_those 9 = .ok (.invokeinterface 51 1, 5) := by decide +kernel
theorem dX2_those_14 : decode cX2_those 14 = .ok (.if_icmp .ge 32, 3) := dk_162 0 32 (dk_at dksX2_those_0 14 rfl rfl)
theorem dX2_those_17 : decode cX2_those 17 = .ok (.iload_n 2, 1) := dk_28 (dk_at dksX2_those_0 17 rfl rfl)
theorem dX2_those_18 : decode cX2_those 18 = .ok (.aload_n 0, 1) := dk_42 (dk_at dksX2_those_0 18 rfl rfl)
theorem dX2_those_19 : decode cX2_those 19 = .ok (.iload_n 3, 1) := dk_29 (dk_at dksX2_those_0 19 rfl rfl)
theorem dX2_those_20 : decode cX2_those 20 = .ok (.invokevirtual 78, 3) := dk_182 0 78 (dk_at dksX2_those_0 20 rfl rfl)
theorem dX2_those_23 : decode cX2_those 23 = .ok (.getfield 178, 3) := dk_180 0 178 (dk_at dksX2_those_1 0 rfl rfl)
theorem dX2_those_26 : decode cX2_those 26 = .ok (.iload_n 1, 1) := dk_27 (dk_at dksX2_those_1 3 rfl rfl)
theorem dX2_those_27 : decode cX2_those 27 = .ok (.if_icmp .ne 7, 3) := dk_160 0 7 (dk_at dksX2_those_1 4 rfl rfl)
theorem dX2_those_30 : decode cX2_those 30 = .ok (.iconst 1, 1) := dk_4 (dk_at dksX2_those_1 7 rfl rfl)
theorem dX2_those_31 : decode cX2_those 31 = .ok (.goto 4, 3) := dk_167 0 4 (dk_at dksX2_those_1 8 rfl rfl)
theorem dX2_those_34 : decode cX2_those 34 = .ok (.iconst 0, 1) := dk_3 (dk_at dksX2_those_1 11 rfl rfl)
theorem dX2_those_35 : decode cX2_those 35 = .ok (.invokestatic 174, 3) := dk_184 0 174 (dk_at dksX2_those_1 12 rfl rfl)
theorem dX2_those_38 : decode cX2_those 38 = .ok (.iadd, 1) := dk_96 (dk_at dksX2_those_1 15 rfl rfl)
theorem dX2_those_39 : decode cX2_those 39 = .ok (.istore_n 2, 1) := dk_61 (dk_at dksX2_those_1 16 rfl rfl)
theorem dX2_those_40 : decode cX2_those 40 = .ok (.iinc 3 1, 3) := dk_132 3 1 (dk_at dksX2_those_1 17 rfl rfl)
theorem dX2_those_43 : decode cX2_those 43 = .ok (.goto (-39), 3) := dk_167 255 217 (dk_at dksX2_those_1 20 rfl rfl)
theorem dX2_those_46 : decode cX2_those 46 = .ok (.iload_n 2, 1) := dk_28 (dk_at dksX2_those_1 23 rfl rfl)
theorem dX2_those_47 : decode cX2_those 47 = .ok (.ireturn, 1) := dk_172 (dk_at dksX2_those_2 0 rfl rfl)
abbrev cX2_turns : ByteArray := prog_5_method_16_code
def yX2_turns : MethodName := ⟨RX2, "turns", "()V"⟩
def dkwX2_turns_5 : List UInt8 := [42, 42, 180, 0, 44, 3, 182, 0, 194, 192, 0, 83, 182, 0, 198, 177]
abbrev dktX2_turns_5 : List UInt8 := dkwX2_turns_5 ++ []
def dkwX2_turns_4 : List UInt8 := [180, 0, 31, 112, 181, 0, 166, 132, 1, 1, 167, 255, 206, 42, 180, 0, 44, 3, 182, 0, 181, 154, 0, 18]
abbrev dktX2_turns_4 : List UInt8 := dkwX2_turns_4 ++ dktX2_turns_5
def dkwX2_turns_3 : List UInt8 := [182, 0, 163, 153, 0, 26, 42, 27, 182, 0, 78, 42, 27, 182, 0, 78, 180, 0, 166, 4, 96, 42]
abbrev dktX2_turns_3 : List UInt8 := dkwX2_turns_3 ++ dktX2_turns_4
def dkwX2_turns_2 : List UInt8 := [167, 255, 219, 3, 60, 27, 42, 180, 0, 20, 185, 0, 51, 1, 0, 162, 0, 43, 42, 27, 182, 0, 78]
abbrev dktX2_turns_2 : List UInt8 := dkwX2_turns_2 ++ dktX2_turns_3
def dkwX2_turns_1 : List UInt8 := [182, 0, 181, 154, 0, 18, 42, 180, 0, 44, 27, 182, 0, 194, 192, 0, 83, 27, 181, 0, 105, 132, 1, 1]
abbrev dktX2_turns_1 : List UInt8 := dkwX2_turns_1 ++ dktX2_turns_2
def dkwX2_turns_0 : List UInt8 := [42, 180, 0, 44, 182, 0, 191, 3, 60, 27, 42, 180, 0, 31, 162, 0, 35, 42, 180, 0, 44, 27]
abbrev dktX2_turns_0 : List UInt8 := dkwX2_turns_0 ++ dktX2_turns_1
theorem dksX2_turns_0 : cX2_turns.data.toList.drop 0 = dktX2_turns_0 := by decide +kernel
theorem dksX2_turns_1 : cX2_turns.data.toList.drop 22 = dktX2_turns_1 := dk_seg dksX2_turns_0 22 rfl rfl
theorem dksX2_turns_2 : cX2_turns.data.toList.drop 46 = dktX2_turns_2 := dk_seg dksX2_turns_1 24 rfl rfl
theorem dksX2_turns_3 : cX2_turns.data.toList.drop 69 = dktX2_turns_3 := dk_seg dksX2_turns_2 23 rfl rfl
theorem dksX2_turns_4 : cX2_turns.data.toList.drop 91 = dktX2_turns_4 := dk_seg dksX2_turns_3 22 rfl rfl
theorem dksX2_turns_5 : cX2_turns.data.toList.drop 115 = dktX2_turns_5 := dk_seg dksX2_turns_4 24 rfl rfl
theorem dX2_turns_0 : decode cX2_turns 0 = .ok (.aload_n 0, 1) := dk_42 (dk_at dksX2_turns_0 0 rfl rfl)
theorem dX2_turns_1 : decode cX2_turns 1 = .ok (.getfield 44, 3) := dk_180 0 44 (dk_at dksX2_turns_0 1 rfl rfl)
theorem dX2_turns_4 : decode cX2_turns 4 = .ok (.invokevirtual 191, 3) := dk_182 0 191 (dk_at dksX2_turns_0 4 rfl rfl)
theorem dX2_turns_7 : decode cX2_turns 7 = .ok (.iconst 0, 1) := dk_3 (dk_at dksX2_turns_0 7 rfl rfl)
theorem dX2_turns_8 : decode cX2_turns 8 = .ok (.istore_n 1, 1) := dk_60 (dk_at dksX2_turns_0 8 rfl rfl)
theorem dX2_turns_9 : decode cX2_turns 9 = .ok (.iload_n 1, 1) := dk_27 (dk_at dksX2_turns_0 9 rfl rfl)
theorem dX2_turns_10 : decode cX2_turns 10 = .ok (.aload_n 0, 1) := dk_42 (dk_at dksX2_turns_0 10 rfl rfl)
theorem dX2_turns_11 : decode cX2_turns 11 = .ok (.getfield 31, 3) := dk_180 0 31 (dk_at dksX2_turns_0 11 rfl rfl)
theorem dX2_turns_14 : decode cX2_turns 14 = .ok (.if_icmp .ge 35, 3) := dk_162 0 35 (dk_at dksX2_turns_0 14 rfl rfl)
theorem dX2_turns_17 : decode cX2_turns 17 = .ok (.aload_n 0, 1) := dk_42 (dk_at dksX2_turns_0 17 rfl rfl)
theorem dX2_turns_18 : decode cX2_turns 18 = .ok (.getfield 44, 3) := dk_180 0 44 (dk_at dksX2_turns_0 18 rfl rfl)
theorem dX2_turns_21 : decode cX2_turns 21 = .ok (.iload_n 1, 1) := dk_27 (dk_at dksX2_turns_0 21 rfl rfl)
theorem dX2_turns_22 : decode cX2_turns 22 = .ok (.invokevirtual 181, 3) := dk_182 0 181 (dk_at dksX2_turns_1 0 rfl rfl)
theorem dX2_turns_25 : decode cX2_turns 25 = .ok (.ifCond .ne 18, 3) := dk_154 0 18 (dk_at dksX2_turns_1 3 rfl rfl)
theorem dX2_turns_28 : decode cX2_turns 28 = .ok (.aload_n 0, 1) := dk_42 (dk_at dksX2_turns_1 6 rfl rfl)
theorem dX2_turns_29 : decode cX2_turns 29 = .ok (.getfield 44, 3) := dk_180 0 44 (dk_at dksX2_turns_1 7 rfl rfl)
theorem dX2_turns_32 : decode cX2_turns 32 = .ok (.iload_n 1, 1) := dk_27 (dk_at dksX2_turns_1 10 rfl rfl)
theorem dX2_turns_33 : decode cX2_turns 33 = .ok (.invokevirtual 194, 3) := dk_182 0 194 (dk_at dksX2_turns_1 11 rfl rfl)
theorem dX2_turns_36 : decode cX2_turns 36 = .ok (.checkcast 83, 3) := dk_192 0 83 (dk_at dksX2_turns_1 14 rfl rfl)
theorem dX2_turns_39 : decode cX2_turns 39 = .ok (.iload_n 1, 1) := dk_27 (dk_at dksX2_turns_1 17 rfl rfl)
theorem dX2_turns_40 : decode cX2_turns 40 = .ok (.putfield 105, 3) := dk_181 0 105 (dk_at dksX2_turns_1 18 rfl rfl)
theorem dX2_turns_43 : decode cX2_turns 43 = .ok (.iinc 1 1, 3) := dk_132 1 1 (dk_at dksX2_turns_1 21 rfl rfl)
theorem dX2_turns_46 : decode cX2_turns 46 = .ok (.goto (-37), 3) := dk_167 255 219 (dk_at dksX2_turns_2 0 rfl rfl)
theorem dX2_turns_49 : decode cX2_turns 49 = .ok (.iconst 0, 1) := dk_3 (dk_at dksX2_turns_2 3 rfl rfl)
theorem dX2_turns_50 : decode cX2_turns 50 = .ok (.istore_n 1, 1) := dk_60 (dk_at dksX2_turns_2 4 rfl rfl)
theorem dX2_turns_51 : decode cX2_turns 51 = .ok (.iload_n 1, 1) := dk_27 (dk_at dksX2_turns_2 5 rfl rfl)
theorem dX2_turns_52 : decode cX2_turns 52 = .ok (.aload_n 0, 1) := dk_42 (dk_at dksX2_turns_2 6 rfl rfl)
theorem dX2_turns_53 : decode cX2_turns 53 = .ok (.getfield 20, 3) := dk_180 0 20 (dk_at dksX2_turns_2 7 rfl rfl)
theorem dX2_turns_56 : decode cX2_turns 56 = .ok (.invokeinterface 51 1, 5) := by decide +kernel
theorem dX2_turns_61 : decode cX2_turns 61 = .ok (.if_icmp .ge 43, 3) := dk_162 0 43 (dk_at dksX2_turns_2 15 rfl rfl)
theorem dX2_turns_64 : decode cX2_turns 64 = .ok (.aload_n 0, 1) := dk_42 (dk_at dksX2_turns_2 18 rfl rfl)
theorem dX2_turns_65 : decode cX2_turns 65 = .ok (.iload_n 1, 1) := dk_27 (dk_at dksX2_turns_2 19 rfl rfl)
theorem dX2_turns_66 : decode cX2_turns 66 = .ok (.invokevirtual 78, 3) := dk_182 0 78 (dk_at dksX2_turns_2 20 rfl rfl)
theorem dX2_turns_69 : decode cX2_turns 69 = .ok (.invokevirtual 163, 3) := dk_182 0 163 (dk_at dksX2_turns_3 0 rfl rfl)
theorem dX2_turns_72 : decode cX2_turns 72 = .ok (.ifCond .eq 26, 3) := dk_153 0 26 (dk_at dksX2_turns_3 3 rfl rfl)
theorem dX2_turns_75 : decode cX2_turns 75 = .ok (.aload_n 0, 1) := dk_42 (dk_at dksX2_turns_3 6 rfl rfl)
theorem dX2_turns_76 : decode cX2_turns 76 = .ok (.iload_n 1, 1) := dk_27 (dk_at dksX2_turns_3 7 rfl rfl)
theorem dX2_turns_77 : decode cX2_turns 77 = .ok (.invokevirtual 78, 3) := dk_182 0 78 (dk_at dksX2_turns_3 8 rfl rfl)
theorem dX2_turns_80 : decode cX2_turns 80 = .ok (.aload_n 0, 1) := dk_42 (dk_at dksX2_turns_3 11 rfl rfl)
theorem dX2_turns_81 : decode cX2_turns 81 = .ok (.iload_n 1, 1) := dk_27 (dk_at dksX2_turns_3 12 rfl rfl)
theorem dX2_turns_82 : decode cX2_turns 82 = .ok (.invokevirtual 78, 3) := dk_182 0 78 (dk_at dksX2_turns_3 13 rfl rfl)
theorem dX2_turns_85 : decode cX2_turns 85 = .ok (.getfield 166, 3) := dk_180 0 166 (dk_at dksX2_turns_3 16 rfl rfl)
theorem dX2_turns_88 : decode cX2_turns 88 = .ok (.iconst 1, 1) := dk_4 (dk_at dksX2_turns_3 19 rfl rfl)
theorem dX2_turns_89 : decode cX2_turns 89 = .ok (.iadd, 1) := dk_96 (dk_at dksX2_turns_3 20 rfl rfl)
theorem dX2_turns_90 : decode cX2_turns 90 = .ok (.aload_n 0, 1) := dk_42 (dk_at dksX2_turns_3 21 rfl rfl)
theorem dX2_turns_91 : decode cX2_turns 91 = .ok (.getfield 31, 3) := dk_180 0 31 (dk_at dksX2_turns_4 0 rfl rfl)
theorem dX2_turns_94 : decode cX2_turns 94 = .ok (.irem, 1) := dk_112 (dk_at dksX2_turns_4 3 rfl rfl)
theorem dX2_turns_95 : decode cX2_turns 95 = .ok (.putfield 166, 3) := dk_181 0 166 (dk_at dksX2_turns_4 4 rfl rfl)
theorem dX2_turns_98 : decode cX2_turns 98 = .ok (.iinc 1 1, 3) := dk_132 1 1 (dk_at dksX2_turns_4 7 rfl rfl)
theorem dX2_turns_101 : decode cX2_turns 101 = .ok (.goto (-50), 3) := dk_167 255 206 (dk_at dksX2_turns_4 10 rfl rfl)
theorem dX2_turns_104 : decode cX2_turns 104 = .ok (.aload_n 0, 1) := dk_42 (dk_at dksX2_turns_4 13 rfl rfl)
theorem dX2_turns_105 : decode cX2_turns 105 = .ok (.getfield 44, 3) := dk_180 0 44 (dk_at dksX2_turns_4 14 rfl rfl)
theorem dX2_turns_108 : decode cX2_turns 108 = .ok (.iconst 0, 1) := dk_3 (dk_at dksX2_turns_4 17 rfl rfl)
theorem dX2_turns_109 : decode cX2_turns 109 = .ok (.invokevirtual 181, 3) := dk_182 0 181 (dk_at dksX2_turns_4 18 rfl rfl)
theorem dX2_turns_112 : decode cX2_turns 112 = .ok (.ifCond .ne 18, 3) := dk_154 0 18 (dk_at dksX2_turns_4 21 rfl rfl)
theorem dX2_turns_115 : decode cX2_turns 115 = .ok (.aload_n 0, 1) := dk_42 (dk_at dksX2_turns_5 0 rfl rfl)
theorem dX2_turns_116 : decode cX2_turns 116 = .ok (.aload_n 0, 1) := dk_42 (dk_at dksX2_turns_5 1 rfl rfl)
theorem dX2_turns_117 : decode cX2_turns 117 = .ok (.getfield 44, 3) := dk_180 0 44 (dk_at dksX2_turns_5 2 rfl rfl)
theorem dX2_turns_120 : decode cX2_turns 120 = .ok (.iconst 0, 1) := dk_3 (dk_at dksX2_turns_5 5 rfl rfl)
theorem dX2_turns_121 : decode cX2_turns 121 = .ok (.invokevirtual 194, 3) := dk_182 0 194 (dk_at dksX2_turns_5 6 rfl rfl)
theorem dX2_turns_124 : decode cX2_turns 124 = .ok (.checkcast 83, 3) := dk_192 0 83 (dk_at dksX2_turns_5 9 rfl rfl)
theorem dX2_turns_127 : decode cX2_turns 127 = .ok (.invokevirtual 198, 3) := dk_182 0 198 (dk_at dksX2_turns_5 12 rfl rfl)
theorem dX2_turns_130 : decode cX2_turns 130 = .ok (.return_, 1) := dk_177 (dk_at dksX2_turns_5 15 rfl rfl)
abbrev cX2_laps : ByteArray := prog_5_method_17_code
def yX2_laps : MethodName := ⟨RX2, "laps", "(LSortingLoop$Parcel;)V"⟩
def dkwX2_laps_2 : List UInt8 := [46, 4, 96, 79, 177]
abbrev dktX2_laps_2 : List UInt8 := dkwX2_laps_2 ++ []
def dkwX2_laps_1 : List UInt8 := [180, 0, 44, 3, 1, 182, 0, 108, 43, 6, 42, 180, 0, 122, 182, 0, 204, 42, 180, 0, 23, 16, 7, 92]
abbrev dktX2_laps_1 : List UInt8 := dkwX2_laps_1 ++ dktX2_laps_2
def dkwX2_laps_0 : List UInt8 := [43, 89, 180, 0, 202, 4, 96, 181, 0, 202, 43, 180, 0, 202, 42, 180, 0, 27, 163, 0, 4, 177, 42]
abbrev dktX2_laps_0 : List UInt8 := dkwX2_laps_0 ++ dktX2_laps_1
theorem dksX2_laps_0 : cX2_laps.data.toList.drop 0 = dktX2_laps_0 := by decide +kernel
theorem dksX2_laps_1 : cX2_laps.data.toList.drop 23 = dktX2_laps_1 := dk_seg dksX2_laps_0 23 rfl rfl
theorem dksX2_laps_2 : cX2_laps.data.toList.drop 47 = dktX2_laps_2 := dk_seg dksX2_laps_1 24 rfl rfl
theorem dX2_laps_0 : decode cX2_laps 0 = .ok (.aload_n 1, 1) := dk_43 (dk_at dksX2_laps_0 0 rfl rfl)
theorem dX2_laps_1 : decode cX2_laps 1 = .ok (.dup, 1) := dk_89 (dk_at dksX2_laps_0 1 rfl rfl)
theorem dX2_laps_2 : decode cX2_laps 2 = .ok (.getfield 202, 3) := dk_180 0 202 (dk_at dksX2_laps_0 2 rfl rfl)
theorem dX2_laps_5 : decode cX2_laps 5 = .ok (.iconst 1, 1) := dk_4 (dk_at dksX2_laps_0 5 rfl rfl)
theorem dX2_laps_6 : decode cX2_laps 6 = .ok (.iadd, 1) := dk_96 (dk_at dksX2_laps_0 6 rfl rfl)
theorem dX2_laps_7 : decode cX2_laps 7 = .ok (.putfield 202, 3) := dk_181 0 202 (dk_at dksX2_laps_0 7 rfl rfl)
theorem dX2_laps_10 : decode cX2_laps 10 = .ok (.aload_n 1, 1) := dk_43 (dk_at dksX2_laps_0 10 rfl rfl)
theorem dX2_laps_11 : decode cX2_laps 11 = .ok (.getfield 202, 3) := dk_180 0 202 (dk_at dksX2_laps_0 11 rfl rfl)
theorem dX2_laps_14 : decode cX2_laps 14 = .ok (.aload_n 0, 1) := dk_42 (dk_at dksX2_laps_0 14 rfl rfl)
theorem dX2_laps_15 : decode cX2_laps 15 = .ok (.getfield 27, 3) := dk_180 0 27 (dk_at dksX2_laps_0 15 rfl rfl)
theorem dX2_laps_18 : decode cX2_laps 18 = .ok (.if_icmp .gt 4, 3) := dk_163 0 4 (dk_at dksX2_laps_0 18 rfl rfl)
theorem dX2_laps_21 : decode cX2_laps 21 = .ok (.return_, 1) := dk_177 (dk_at dksX2_laps_0 21 rfl rfl)
theorem dX2_laps_22 : decode cX2_laps 22 = .ok (.aload_n 0, 1) := dk_42 (dk_at dksX2_laps_0 22 rfl rfl)
theorem dX2_laps_23 : decode cX2_laps 23 = .ok (.getfield 44, 3) := dk_180 0 44 (dk_at dksX2_laps_1 0 rfl rfl)
theorem dX2_laps_26 : decode cX2_laps 26 = .ok (.iconst 0, 1) := dk_3 (dk_at dksX2_laps_1 3 rfl rfl)
theorem dX2_laps_27 : decode cX2_laps 27 = .ok (.aconst_null, 1) := dk_1 (dk_at dksX2_laps_1 4 rfl rfl)
theorem dX2_laps_28 : decode cX2_laps 28 = .ok (.invokevirtual 108, 3) := dk_182 0 108 (dk_at dksX2_laps_1 5 rfl rfl)
theorem dX2_laps_31 : decode cX2_laps 31 = .ok (.aload_n 1, 1) := dk_43 (dk_at dksX2_laps_1 8 rfl rfl)
theorem dX2_laps_32 : decode cX2_laps 32 = .ok (.iconst 3, 1) := dk_6 (dk_at dksX2_laps_1 9 rfl rfl)
theorem dX2_laps_33 : decode cX2_laps 33 = .ok (.aload_n 0, 1) := dk_42 (dk_at dksX2_laps_1 10 rfl rfl)
theorem dX2_laps_34 : decode cX2_laps 34 = .ok (.getfield 122, 3) := dk_180 0 122 (dk_at dksX2_laps_1 11 rfl rfl)
theorem dX2_laps_37 : decode cX2_laps 37 = .ok (.invokevirtual 204, 3) := dk_182 0 204 (dk_at dksX2_laps_1 14 rfl rfl)
theorem dX2_laps_40 : decode cX2_laps 40 = .ok (.aload_n 0, 1) := dk_42 (dk_at dksX2_laps_1 17 rfl rfl)
theorem dX2_laps_41 : decode cX2_laps 41 = .ok (.getfield 23, 3) := dk_180 0 23 (dk_at dksX2_laps_1 18 rfl rfl)
theorem dX2_laps_44 : decode cX2_laps 44 = .ok (.bipush 7, 2) := dk_16 7 (dk_at dksX2_laps_1 21 rfl rfl)
theorem dX2_laps_46 : decode cX2_laps 46 = .ok (.dup2, 1) := dk_92 (dk_at dksX2_laps_1 23 rfl rfl)
theorem dX2_laps_47 : decode cX2_laps 47 = .ok (.iaload, 1) := dk_46 (dk_at dksX2_laps_2 0 rfl rfl)
theorem dX2_laps_48 : decode cX2_laps 48 = .ok (.iconst 1, 1) := dk_4 (dk_at dksX2_laps_2 1 rfl rfl)
theorem dX2_laps_49 : decode cX2_laps 49 = .ok (.iadd, 1) := dk_96 (dk_at dksX2_laps_2 2 rfl rfl)
theorem dX2_laps_50 : decode cX2_laps 50 = .ok (.iastore, 1) := dk_79 (dk_at dksX2_laps_2 3 rfl rfl)
theorem dX2_laps_51 : decode cX2_laps 51 = .ok (.return_, 1) := dk_177 (dk_at dksX2_laps_2 4 rfl rfl)
abbrev cX2_scans : ByteArray := prog_5_method_18_code
def yX2_scans : MethodName := ⟨RX2, "scans", "(LSortingLoop$Parcel;)V"⟩
def dkwX2_scans_2 : List UInt8 := [167, 0, 4, 3, 184, 0, 174, 96, 79, 43, 43, 180, 0, 105, 181, 0, 166, 177]
abbrev dktX2_scans_2 : List UInt8 := dkwX2_scans_2 ++ []
def dkwX2_scans_1 : List UInt8 := [46, 4, 96, 79, 177, 42, 180, 0, 23, 16, 8, 92, 46, 42, 43, 182, 0, 210, 153, 0, 7, 4]
abbrev dktX2_scans_1 : List UInt8 := dkwX2_scans_1 ++ dktX2_scans_2
def dkwX2_scans_0 : List UInt8 := [43, 180, 0, 207, 158, 0, 25, 43, 89, 180, 0, 207, 4, 100, 181, 0, 207, 42, 180, 0, 23, 16, 9, 92]
abbrev dktX2_scans_0 : List UInt8 := dkwX2_scans_0 ++ dktX2_scans_1
theorem dksX2_scans_0 : cX2_scans.data.toList.drop 0 = dktX2_scans_0 := by decide +kernel
theorem dksX2_scans_1 : cX2_scans.data.toList.drop 24 = dktX2_scans_1 := dk_seg dksX2_scans_0 24 rfl rfl
theorem dksX2_scans_2 : cX2_scans.data.toList.drop 46 = dktX2_scans_2 := dk_seg dksX2_scans_1 22 rfl rfl
theorem dX2_scans_0 : decode cX2_scans 0 = .ok (.aload_n 1, 1) := dk_43 (dk_at dksX2_scans_0 0 rfl rfl)
theorem dX2_scans_1 : decode cX2_scans 1 = .ok (.getfield 207, 3) := dk_180 0 207 (dk_at dksX2_scans_0 1 rfl rfl)
theorem dX2_scans_4 : decode cX2_scans 4 = .ok (.ifCond .le 25, 3) := dk_158 0 25 (dk_at dksX2_scans_0 4 rfl rfl)
theorem dX2_scans_7 : decode cX2_scans 7 = .ok (.aload_n 1, 1) := dk_43 (dk_at dksX2_scans_0 7 rfl rfl)
theorem dX2_scans_8 : decode cX2_scans 8 = .ok (.dup, 1) := dk_89 (dk_at dksX2_scans_0 8 rfl rfl)
theorem dX2_scans_9 : decode cX2_scans 9 = .ok (.getfield 207, 3) := dk_180 0 207 (dk_at dksX2_scans_0 9 rfl rfl)
theorem dX2_scans_12 : decode cX2_scans 12 = .ok (.iconst 1, 1) := dk_4 (dk_at dksX2_scans_0 12 rfl rfl)
theorem dX2_scans_13 : decode cX2_scans 13 = .ok (.isub, 1) := dk_100 (dk_at dksX2_scans_0 13 rfl rfl)
theorem dX2_scans_14 : decode cX2_scans 14 = .ok (.putfield 207, 3) := dk_181 0 207 (dk_at dksX2_scans_0 14 rfl rfl)
theorem dX2_scans_17 : decode cX2_scans 17 = .ok (.aload_n 0, 1) := dk_42 (dk_at dksX2_scans_0 17 rfl rfl)
theorem dX2_scans_18 : decode cX2_scans 18 = .ok (.getfield 23, 3) := dk_180 0 23 (dk_at dksX2_scans_0 18 rfl rfl)
theorem dX2_scans_21 : decode cX2_scans 21 = .ok (.bipush 9, 2) := dk_16 9 (dk_at dksX2_scans_0 21 rfl rfl)
theorem dX2_scans_23 : decode cX2_scans 23 = .ok (.dup2, 1) := dk_92 (dk_at dksX2_scans_0 23 rfl rfl)
theorem dX2_scans_24 : decode cX2_scans 24 = .ok (.iaload, 1) := dk_46 (dk_at dksX2_scans_1 0 rfl rfl)
theorem dX2_scans_25 : decode cX2_scans 25 = .ok (.iconst 1, 1) := dk_4 (dk_at dksX2_scans_1 1 rfl rfl)
theorem dX2_scans_26 : decode cX2_scans 26 = .ok (.iadd, 1) := dk_96 (dk_at dksX2_scans_1 2 rfl rfl)
theorem dX2_scans_27 : decode cX2_scans 27 = .ok (.iastore, 1) := dk_79 (dk_at dksX2_scans_1 3 rfl rfl)
theorem dX2_scans_28 : decode cX2_scans 28 = .ok (.return_, 1) := dk_177 (dk_at dksX2_scans_1 4 rfl rfl)
theorem dX2_scans_29 : decode cX2_scans 29 = .ok (.aload_n 0, 1) := dk_42 (dk_at dksX2_scans_1 5 rfl rfl)
theorem dX2_scans_30 : decode cX2_scans 30 = .ok (.getfield 23, 3) := dk_180 0 23 (dk_at dksX2_scans_1 6 rfl rfl)
theorem dX2_scans_33 : decode cX2_scans 33 = .ok (.bipush 8, 2) := dk_16 8 (dk_at dksX2_scans_1 9 rfl rfl)
theorem dX2_scans_35 : decode cX2_scans 35 = .ok (.dup2, 1) := dk_92 (dk_at dksX2_scans_1 11 rfl rfl)
theorem dX2_scans_36 : decode cX2_scans 36 = .ok (.iaload, 1) := dk_46 (dk_at dksX2_scans_1 12 rfl rfl)
theorem dX2_scans_37 : decode cX2_scans 37 = .ok (.aload_n 0, 1) := dk_42 (dk_at dksX2_scans_1 13 rfl rfl)
theorem dX2_scans_38 : decode cX2_scans 38 = .ok (.aload_n 1, 1) := dk_43 (dk_at dksX2_scans_1 14 rfl rfl)
theorem dX2_scans_39 : decode cX2_scans 39 = .ok (.invokevirtual 210, 3) := dk_182 0 210 (dk_at dksX2_scans_1 15 rfl rfl)
theorem dX2_scans_42 : decode cX2_scans 42 = .ok (.ifCond .eq 7, 3) := dk_153 0 7 (dk_at dksX2_scans_1 18 rfl rfl)
theorem dX2_scans_45 : decode cX2_scans 45 = .ok (.iconst 1, 1) := dk_4 (dk_at dksX2_scans_1 21 rfl rfl)
theorem dX2_scans_46 : decode cX2_scans 46 = .ok (.goto 4, 3) := dk_167 0 4 (dk_at dksX2_scans_2 0 rfl rfl)
theorem dX2_scans_49 : decode cX2_scans 49 = .ok (.iconst 0, 1) := dk_3 (dk_at dksX2_scans_2 3 rfl rfl)
theorem dX2_scans_50 : decode cX2_scans 50 = .ok (.invokestatic 174, 3) := dk_184 0 174 (dk_at dksX2_scans_2 4 rfl rfl)
theorem dX2_scans_53 : decode cX2_scans 53 = .ok (.iadd, 1) := dk_96 (dk_at dksX2_scans_2 7 rfl rfl)
theorem dX2_scans_54 : decode cX2_scans 54 = .ok (.iastore, 1) := dk_79 (dk_at dksX2_scans_2 8 rfl rfl)
theorem dX2_scans_55 : decode cX2_scans 55 = .ok (.aload_n 1, 1) := dk_43 (dk_at dksX2_scans_2 9 rfl rfl)
theorem dX2_scans_56 : decode cX2_scans 56 = .ok (.aload_n 1, 1) := dk_43 (dk_at dksX2_scans_2 10 rfl rfl)
theorem dX2_scans_57 : decode cX2_scans 57 = .ok (.getfield 105, 3) := dk_180 0 105 (dk_at dksX2_scans_2 11 rfl rfl)
theorem dX2_scans_60 : decode cX2_scans 60 = .ok (.putfield 166, 3) := dk_181 0 166 (dk_at dksX2_scans_2 14 rfl rfl)
theorem dX2_scans_63 : decode cX2_scans 63 = .ok (.return_, 1) := dk_177 (dk_at dksX2_scans_2 17 rfl rfl)
abbrev cX2_lag : ByteArray := prog_5_method_8_code
def yX2_lag : MethodName := ⟨RX2, "lag", "(LSortingLoop$Parcel;)I"⟩
def dkwX2_lag_0 : List UInt8 := [43, 182, 0, 163, 153, 0, 18, 42, 43, 180, 0, 105, 43, 180, 0, 166, 182, 0, 169, 167, 0, 4, 2, 172]
abbrev dktX2_lag_0 : List UInt8 := dkwX2_lag_0 ++ []
theorem dksX2_lag_0 : cX2_lag.data.toList.drop 0 = dktX2_lag_0 := by decide +kernel
theorem dX2_lag_0 : decode cX2_lag 0 = .ok (.aload_n 1, 1) := dk_43 (dk_at dksX2_lag_0 0 rfl rfl)
theorem dX2_lag_1 : decode cX2_lag 1 = .ok (.invokevirtual 163, 3) := dk_182 0 163 (dk_at dksX2_lag_0 1 rfl rfl)
theorem dX2_lag_4 : decode cX2_lag 4 = .ok (.ifCond .eq 18, 3) := dk_153 0 18 (dk_at dksX2_lag_0 4 rfl rfl)
theorem dX2_lag_7 : decode cX2_lag 7 = .ok (.aload_n 0, 1) := dk_42 (dk_at dksX2_lag_0 7 rfl rfl)
theorem dX2_lag_8 : decode cX2_lag 8 = .ok (.aload_n 1, 1) := dk_43 (dk_at dksX2_lag_0 8 rfl rfl)
theorem dX2_lag_9 : decode cX2_lag 9 = .ok (.getfield 105, 3) := dk_180 0 105 (dk_at dksX2_lag_0 9 rfl rfl)
theorem dX2_lag_12 : decode cX2_lag 12 = .ok (.aload_n 1, 1) := dk_43 (dk_at dksX2_lag_0 12 rfl rfl)
theorem dX2_lag_13 : decode cX2_lag 13 = .ok (.getfield 166, 3) := dk_180 0 166 (dk_at dksX2_lag_0 13 rfl rfl)
theorem dX2_lag_16 : decode cX2_lag 16 = .ok (.invokevirtual 169, 3) := dk_182 0 169 (dk_at dksX2_lag_0 16 rfl rfl)
theorem dX2_lag_19 : decode cX2_lag 19 = .ok (.goto 4, 3) := dk_167 0 4 (dk_at dksX2_lag_0 19 rfl rfl)
theorem dX2_lag_22 : decode cX2_lag 22 = .ok (.iconst (-1), 1) := dk_2 (dk_at dksX2_lag_0 22 rfl rfl)
theorem dX2_lag_23 : decode cX2_lag 23 = .ok (.ireturn, 1) := dk_172 (dk_at dksX2_lag_0 23 rfl rfl)
abbrev cX2_steps : ByteArray := prog_5_method_7_code
def yX2_steps : MethodName := ⟨RX2, "steps", "(II)I"⟩
def dkwX2_steps_0 : List UInt8 := [28, 27, 100, 42, 180, 0, 31, 96, 42, 180, 0, 31, 112, 172]
abbrev dktX2_steps_0 : List UInt8 := dkwX2_steps_0 ++ []
theorem dksX2_steps_0 : cX2_steps.data.toList.drop 0 = dktX2_steps_0 := by decide +kernel
theorem dX2_steps_0 : decode cX2_steps 0 = .ok (.iload_n 2, 1) := dk_28 (dk_at dksX2_steps_0 0 rfl rfl)
theorem dX2_steps_1 : decode cX2_steps 1 = .ok (.iload_n 1, 1) := dk_27 (dk_at dksX2_steps_0 1 rfl rfl)
theorem dX2_steps_2 : decode cX2_steps 2 = .ok (.isub, 1) := dk_100 (dk_at dksX2_steps_0 2 rfl rfl)
theorem dX2_steps_3 : decode cX2_steps 3 = .ok (.aload_n 0, 1) := dk_42 (dk_at dksX2_steps_0 3 rfl rfl)
theorem dX2_steps_4 : decode cX2_steps 4 = .ok (.getfield 31, 3) := dk_180 0 31 (dk_at dksX2_steps_0 4 rfl rfl)
theorem dX2_steps_7 : decode cX2_steps 7 = .ok (.iadd, 1) := dk_96 (dk_at dksX2_steps_0 7 rfl rfl)
theorem dX2_steps_8 : decode cX2_steps 8 = .ok (.aload_n 0, 1) := dk_42 (dk_at dksX2_steps_0 8 rfl rfl)
theorem dX2_steps_9 : decode cX2_steps 9 = .ok (.getfield 31, 3) := dk_180 0 31 (dk_at dksX2_steps_0 9 rfl rfl)
theorem dX2_steps_12 : decode cX2_steps 12 = .ok (.irem, 1) := dk_112 (dk_at dksX2_steps_0 12 rfl rfl)
theorem dX2_steps_13 : decode cX2_steps 13 = .ok (.ireturn, 1) := dk_172 (dk_at dksX2_steps_0 13 rfl rfl)
abbrev cX2_isAt : ByteArray := prog_5_method_22_code
def yX2_isAt : MethodName := ⟨RX2, "isAt", "(LSortingLoop$Chute;LSortingLoop$Parcel;)Z"⟩
def dkwX2_isAt_1 : List UInt8 := [160, 0, 18, 44, 180, 0, 166, 43, 180, 0, 173, 160, 0, 7, 4, 167, 0, 4, 3, 172]
abbrev dktX2_isAt_1 : List UInt8 := dkwX2_isAt_1 ++ []
def dkwX2_isAt_0 : List UInt8 := [44, 182, 0, 163, 153, 0, 36, 44, 180, 0, 207, 154, 0, 29, 44, 180, 0, 88, 43, 180, 0, 214]
abbrev dktX2_isAt_0 : List UInt8 := dkwX2_isAt_0 ++ dktX2_isAt_1
theorem dksX2_isAt_0 : cX2_isAt.data.toList.drop 0 = dktX2_isAt_0 := by decide +kernel
theorem dksX2_isAt_1 : cX2_isAt.data.toList.drop 22 = dktX2_isAt_1 := dk_seg dksX2_isAt_0 22 rfl rfl
theorem dX2_isAt_0 : decode cX2_isAt 0 = .ok (.aload_n 2, 1) := dk_44 (dk_at dksX2_isAt_0 0 rfl rfl)
theorem dX2_isAt_1 : decode cX2_isAt 1 = .ok (.invokevirtual 163, 3) := dk_182 0 163 (dk_at dksX2_isAt_0 1 rfl rfl)
theorem dX2_isAt_4 : decode cX2_isAt 4 = .ok (.ifCond .eq 36, 3) := dk_153 0 36 (dk_at dksX2_isAt_0 4 rfl rfl)
theorem dX2_isAt_7 : decode cX2_isAt 7 = .ok (.aload_n 2, 1) := dk_44 (dk_at dksX2_isAt_0 7 rfl rfl)
theorem dX2_isAt_8 : decode cX2_isAt 8 = .ok (.getfield 207, 3) := dk_180 0 207 (dk_at dksX2_isAt_0 8 rfl rfl)
theorem dX2_isAt_11 : decode cX2_isAt 11 = .ok (.ifCond .ne 29, 3) := dk_154 0 29 (dk_at dksX2_isAt_0 11 rfl rfl)
theorem dX2_isAt_14 : decode cX2_isAt 14 = .ok (.aload_n 2, 1) := dk_44 (dk_at dksX2_isAt_0 14 rfl rfl)
theorem dX2_isAt_15 : decode cX2_isAt 15 = .ok (.getfield 88, 3) := dk_180 0 88 (dk_at dksX2_isAt_0 15 rfl rfl)
theorem dX2_isAt_18 : decode cX2_isAt 18 = .ok (.aload_n 1, 1) := dk_43 (dk_at dksX2_isAt_0 18 rfl rfl)
theorem dX2_isAt_19 : decode cX2_isAt 19 = .ok (.getfield 214, 3) := dk_180 0 214 (dk_at dksX2_isAt_0 19 rfl rfl)
theorem dX2_isAt_22 : decode cX2_isAt 22 = .ok (.if_icmp .ne 18, 3) := dk_160 0 18 (dk_at dksX2_isAt_1 0 rfl rfl)
theorem dX2_isAt_25 : decode cX2_isAt 25 = .ok (.aload_n 2, 1) := dk_44 (dk_at dksX2_isAt_1 3 rfl rfl)
theorem dX2_isAt_26 : decode cX2_isAt 26 = .ok (.getfield 166, 3) := dk_180 0 166 (dk_at dksX2_isAt_1 4 rfl rfl)
theorem dX2_isAt_29 : decode cX2_isAt 29 = .ok (.aload_n 1, 1) := dk_43 (dk_at dksX2_isAt_1 7 rfl rfl)
theorem dX2_isAt_30 : decode cX2_isAt 30 = .ok (.getfield 173, 3) := dk_180 0 173 (dk_at dksX2_isAt_1 8 rfl rfl)
theorem dX2_isAt_33 : decode cX2_isAt 33 = .ok (.if_icmp .ne 7, 3) := dk_160 0 7 (dk_at dksX2_isAt_1 11 rfl rfl)
theorem dX2_isAt_36 : decode cX2_isAt 36 = .ok (.iconst 1, 1) := dk_4 (dk_at dksX2_isAt_1 14 rfl rfl)
theorem dX2_isAt_37 : decode cX2_isAt 37 = .ok (.goto 4, 3) := dk_167 0 4 (dk_at dksX2_isAt_1 15 rfl rfl)
theorem dX2_isAt_40 : decode cX2_isAt 40 = .ok (.iconst 0, 1) := dk_3 (dk_at dksX2_isAt_1 18 rfl rfl)
theorem dX2_isAt_41 : decode cX2_isAt 41 = .ok (.ireturn, 1) := dk_172 (dk_at dksX2_isAt_1 19 rfl rfl)
abbrev cX2_meets : ByteArray := prog_5_method_20_code
def yX2_meets : MethodName := ⟨RX2, "meets", "(LSortingLoop$Chute;LSortingLoop$Parcel;)V"⟩
def dkwX2_meets_2 : List UInt8 := [181, 0, 150, 42, 43, 44, 182, 0, 223, 177]
abbrev dktX2_meets_2 : List UInt8 := dkwX2_meets_2 ++ []
def dkwX2_meets_1 : List UInt8 := [158, 0, 16, 42, 180, 0, 23, 8, 92, 46, 4, 96, 79, 167, 0, 19, 43, 43, 180, 0, 220, 4, 96]
abbrev dktX2_meets_1 : List UInt8 := dkwX2_meets_1 ++ dktX2_meets_2
def dkwX2_meets_0 : List UInt8 := [43, 182, 0, 217, 154, 0, 16, 42, 180, 0, 23, 7, 92, 46, 4, 96, 79, 167, 0, 39, 43, 180, 0, 150]
abbrev dktX2_meets_0 : List UInt8 := dkwX2_meets_0 ++ dktX2_meets_1
theorem dksX2_meets_0 : cX2_meets.data.toList.drop 0 = dktX2_meets_0 := by decide +kernel
theorem dksX2_meets_1 : cX2_meets.data.toList.drop 24 = dktX2_meets_1 := dk_seg dksX2_meets_0 24 rfl rfl
theorem dksX2_meets_2 : cX2_meets.data.toList.drop 47 = dktX2_meets_2 := dk_seg dksX2_meets_1 23 rfl rfl
theorem dX2_meets_0 : decode cX2_meets 0 = .ok (.aload_n 1, 1) := dk_43 (dk_at dksX2_meets_0 0 rfl rfl)
theorem dX2_meets_1 : decode cX2_meets 1 = .ok (.invokevirtual 217, 3) := dk_182 0 217 (dk_at dksX2_meets_0 1 rfl rfl)
theorem dX2_meets_4 : decode cX2_meets 4 = .ok (.ifCond .ne 16, 3) := dk_154 0 16 (dk_at dksX2_meets_0 4 rfl rfl)
theorem dX2_meets_7 : decode cX2_meets 7 = .ok (.aload_n 0, 1) := dk_42 (dk_at dksX2_meets_0 7 rfl rfl)
theorem dX2_meets_8 : decode cX2_meets 8 = .ok (.getfield 23, 3) := dk_180 0 23 (dk_at dksX2_meets_0 8 rfl rfl)
theorem dX2_meets_11 : decode cX2_meets 11 = .ok (.iconst 4, 1) := dk_7 (dk_at dksX2_meets_0 11 rfl rfl)
theorem dX2_meets_12 : decode cX2_meets 12 = .ok (.dup2, 1) := dk_92 (dk_at dksX2_meets_0 12 rfl rfl)
theorem dX2_meets_13 : decode cX2_meets 13 = .ok (.iaload, 1) := dk_46 (dk_at dksX2_meets_0 13 rfl rfl)
theorem dX2_meets_14 : decode cX2_meets 14 = .ok (.iconst 1, 1) := dk_4 (dk_at dksX2_meets_0 14 rfl rfl)
theorem dX2_meets_15 : decode cX2_meets 15 = .ok (.iadd, 1) := dk_96 (dk_at dksX2_meets_0 15 rfl rfl)
theorem dX2_meets_16 : decode cX2_meets 16 = .ok (.iastore, 1) := dk_79 (dk_at dksX2_meets_0 16 rfl rfl)
theorem dX2_meets_17 : decode cX2_meets 17 = .ok (.goto 39, 3) := dk_167 0 39 (dk_at dksX2_meets_0 17 rfl rfl)
theorem dX2_meets_20 : decode cX2_meets 20 = .ok (.aload_n 1, 1) := dk_43 (dk_at dksX2_meets_0 20 rfl rfl)
theorem dX2_meets_21 : decode cX2_meets 21 = .ok (.getfield 150, 3) := dk_180 0 150 (dk_at dksX2_meets_0 21 rfl rfl)
theorem dX2_meets_24 : decode cX2_meets 24 = .ok (.ifCond .le 16, 3) := dk_158 0 16 (dk_at dksX2_meets_1 0 rfl rfl)
theorem dX2_meets_27 : decode cX2_meets 27 = .ok (.aload_n 0, 1) := dk_42 (dk_at dksX2_meets_1 3 rfl rfl)
theorem dX2_meets_28 : decode cX2_meets 28 = .ok (.getfield 23, 3) := dk_180 0 23 (dk_at dksX2_meets_1 4 rfl rfl)
theorem dX2_meets_31 : decode cX2_meets 31 = .ok (.iconst 5, 1) := dk_8 (dk_at dksX2_meets_1 7 rfl rfl)
theorem dX2_meets_32 : decode cX2_meets 32 = .ok (.dup2, 1) := dk_92 (dk_at dksX2_meets_1 8 rfl rfl)
theorem dX2_meets_33 : decode cX2_meets 33 = .ok (.iaload, 1) := dk_46 (dk_at dksX2_meets_1 9 rfl rfl)
theorem dX2_meets_34 : decode cX2_meets 34 = .ok (.iconst 1, 1) := dk_4 (dk_at dksX2_meets_1 10 rfl rfl)
theorem dX2_meets_35 : decode cX2_meets 35 = .ok (.iadd, 1) := dk_96 (dk_at dksX2_meets_1 11 rfl rfl)
theorem dX2_meets_36 : decode cX2_meets 36 = .ok (.iastore, 1) := dk_79 (dk_at dksX2_meets_1 12 rfl rfl)
theorem dX2_meets_37 : decode cX2_meets 37 = .ok (.goto 19, 3) := dk_167 0 19 (dk_at dksX2_meets_1 13 rfl rfl)
theorem dX2_meets_40 : decode cX2_meets 40 = .ok (.aload_n 1, 1) := dk_43 (dk_at dksX2_meets_1 16 rfl rfl)
theorem dX2_meets_41 : decode cX2_meets 41 = .ok (.aload_n 1, 1) := dk_43 (dk_at dksX2_meets_1 17 rfl rfl)
theorem dX2_meets_42 : decode cX2_meets 42 = .ok (.getfield 220, 3) := dk_180 0 220 (dk_at dksX2_meets_1 18 rfl rfl)
theorem dX2_meets_45 : decode cX2_meets 45 = .ok (.iconst 1, 1) := dk_4 (dk_at dksX2_meets_1 21 rfl rfl)
theorem dX2_meets_46 : decode cX2_meets 46 = .ok (.iadd, 1) := dk_96 (dk_at dksX2_meets_1 22 rfl rfl)
theorem dX2_meets_47 : decode cX2_meets 47 = .ok (.putfield 150, 3) := dk_181 0 150 (dk_at dksX2_meets_2 0 rfl rfl)
theorem dX2_meets_50 : decode cX2_meets 50 = .ok (.aload_n 0, 1) := dk_42 (dk_at dksX2_meets_2 3 rfl rfl)
theorem dX2_meets_51 : decode cX2_meets 51 = .ok (.aload_n 1, 1) := dk_43 (dk_at dksX2_meets_2 4 rfl rfl)
theorem dX2_meets_52 : decode cX2_meets 52 = .ok (.aload_n 2, 1) := dk_44 (dk_at dksX2_meets_2 5 rfl rfl)
theorem dX2_meets_53 : decode cX2_meets 53 = .ok (.invokevirtual 223, 3) := dk_182 0 223 (dk_at dksX2_meets_2 6 rfl rfl)
theorem dX2_meets_56 : decode cX2_meets 56 = .ok (.return_, 1) := dk_177 (dk_at dksX2_meets_2 9 rfl rfl)
abbrev cX2_fires : ByteArray := prog_5_method_21_code
def yX2_fires : MethodName := ⟨RX2, "fires", "(LSortingLoop$Chute;LSortingLoop$Parcel;)V"⟩
def dkwX2_fires_2 : List UInt8 := [79, 167, 0, 22, 42, 43, 42, 180, 0, 44, 43, 180, 0, 173, 182, 0, 194, 192, 0, 83, 182, 0, 227, 177]
abbrev dktX2_fires_2 : List UInt8 := dkwX2_fires_2 ++ []
def dkwX2_fires_1 : List UInt8 := [42, 180, 0, 44, 43, 180, 0, 173, 182, 0, 181, 153, 0, 17, 42, 180, 0, 23, 16, 6, 92, 46, 4, 96]
abbrev dktX2_fires_1 : List UInt8 := dkwX2_fires_1 ++ dktX2_fires_2
def dkwX2_fires_0 : List UInt8 := [42, 44, 182, 0, 210, 43, 180, 0, 147, 163, 0, 10, 42, 43, 44, 182, 0, 227, 177, 44, 2, 181, 0, 166]
abbrev dktX2_fires_0 : List UInt8 := dkwX2_fires_0 ++ dktX2_fires_1
theorem dksX2_fires_0 : cX2_fires.data.toList.drop 0 = dktX2_fires_0 := by decide +kernel
theorem dksX2_fires_1 : cX2_fires.data.toList.drop 24 = dktX2_fires_1 := dk_seg dksX2_fires_0 24 rfl rfl
theorem dksX2_fires_2 : cX2_fires.data.toList.drop 48 = dktX2_fires_2 := dk_seg dksX2_fires_1 24 rfl rfl
theorem dX2_fires_0 : decode cX2_fires 0 = .ok (.aload_n 0, 1) := dk_42 (dk_at dksX2_fires_0 0 rfl rfl)
theorem dX2_fires_1 : decode cX2_fires 1 = .ok (.aload_n 2, 1) := dk_44 (dk_at dksX2_fires_0 1 rfl rfl)
theorem dX2_fires_2 : decode cX2_fires 2 = .ok (.invokevirtual 210, 3) := dk_182 0 210 (dk_at dksX2_fires_0 2 rfl rfl)
theorem dX2_fires_5 : decode cX2_fires 5 = .ok (.aload_n 1, 1) := dk_43 (dk_at dksX2_fires_0 5 rfl rfl)
theorem dX2_fires_6 : decode cX2_fires 6 = .ok (.getfield 147, 3) := dk_180 0 147 (dk_at dksX2_fires_0 6 rfl rfl)
theorem dX2_fires_9 : decode cX2_fires 9 = .ok (.if_icmp .gt 10, 3) := dk_163 0 10 (dk_at dksX2_fires_0 9 rfl rfl)
theorem dX2_fires_12 : decode cX2_fires 12 = .ok (.aload_n 0, 1) := dk_42 (dk_at dksX2_fires_0 12 rfl rfl)
theorem dX2_fires_13 : decode cX2_fires 13 = .ok (.aload_n 1, 1) := dk_43 (dk_at dksX2_fires_0 13 rfl rfl)
theorem dX2_fires_14 : decode cX2_fires 14 = .ok (.aload_n 2, 1) := dk_44 (dk_at dksX2_fires_0 14 rfl rfl)
theorem dX2_fires_15 : decode cX2_fires 15 = .ok (.invokevirtual 227, 3) := dk_182 0 227 (dk_at dksX2_fires_0 15 rfl rfl)
theorem dX2_fires_18 : decode cX2_fires 18 = .ok (.return_, 1) := dk_177 (dk_at dksX2_fires_0 18 rfl rfl)
theorem dX2_fires_19 : decode cX2_fires 19 = .ok (.aload_n 2, 1) := dk_44 (dk_at dksX2_fires_0 19 rfl rfl)
theorem dX2_fires_20 : decode cX2_fires 20 = .ok (.iconst (-1), 1) := dk_2 (dk_at dksX2_fires_0 20 rfl rfl)
theorem dX2_fires_21 : decode cX2_fires 21 = .ok (.putfield 166, 3) := dk_181 0 166 (dk_at dksX2_fires_0 21 rfl rfl)
theorem dX2_fires_24 : decode cX2_fires 24 = .ok (.aload_n 0, 1) := dk_42 (dk_at dksX2_fires_1 0 rfl rfl)
theorem dX2_fires_25 : decode cX2_fires 25 = .ok (.getfield 44, 3) := dk_180 0 44 (dk_at dksX2_fires_1 1 rfl rfl)
theorem dX2_fires_28 : decode cX2_fires 28 = .ok (.aload_n 1, 1) := dk_43 (dk_at dksX2_fires_1 4 rfl rfl)
theorem dX2_fires_29 : decode cX2_fires 29 = .ok (.getfield 173, 3) := dk_180 0 173 (dk_at dksX2_fires_1 5 rfl rfl)
theorem dX2_fires_32 : decode cX2_fires 32 = .ok (.invokevirtual 181, 3) := dk_182 0 181 (dk_at dksX2_fires_1 8 rfl rfl)
theorem dX2_fires_35 : decode cX2_fires 35 = .ok (.ifCond .eq 17, 3) := dk_153 0 17 (dk_at dksX2_fires_1 11 rfl rfl)
theorem dX2_fires_38 : decode cX2_fires 38 = .ok (.aload_n 0, 1) := dk_42 (dk_at dksX2_fires_1 14 rfl rfl)
theorem dX2_fires_39 : decode cX2_fires 39 = .ok (.getfield 23, 3) := dk_180 0 23 (dk_at dksX2_fires_1 15 rfl rfl)
theorem dX2_fires_42 : decode cX2_fires 42 = .ok (.bipush 6, 2) := dk_16 6 (dk_at dksX2_fires_1 18 rfl rfl)
theorem dX2_fires_44 : decode cX2_fires 44 = .ok (.dup2, 1) := dk_92 (dk_at dksX2_fires_1 20 rfl rfl)
theorem dX2_fires_45 : decode cX2_fires 45 = .ok (.iaload, 1) := dk_46 (dk_at dksX2_fires_1 21 rfl rfl)
theorem dX2_fires_46 : decode cX2_fires 46 = .ok (.iconst 1, 1) := dk_4 (dk_at dksX2_fires_1 22 rfl rfl)
theorem dX2_fires_47 : decode cX2_fires 47 = .ok (.iadd, 1) := dk_96 (dk_at dksX2_fires_1 23 rfl rfl)
theorem dX2_fires_48 : decode cX2_fires 48 = .ok (.iastore, 1) := dk_79 (dk_at dksX2_fires_2 0 rfl rfl)
theorem dX2_fires_49 : decode cX2_fires 49 = .ok (.goto 22, 3) := dk_167 0 22 (dk_at dksX2_fires_2 1 rfl rfl)
theorem dX2_fires_52 : decode cX2_fires 52 = .ok (.aload_n 0, 1) := dk_42 (dk_at dksX2_fires_2 4 rfl rfl)
theorem dX2_fires_53 : decode cX2_fires 53 = .ok (.aload_n 1, 1) := dk_43 (dk_at dksX2_fires_2 5 rfl rfl)
theorem dX2_fires_54 : decode cX2_fires 54 = .ok (.aload_n 0, 1) := dk_42 (dk_at dksX2_fires_2 6 rfl rfl)
theorem dX2_fires_55 : decode cX2_fires 55 = .ok (.getfield 44, 3) := dk_180 0 44 (dk_at dksX2_fires_2 7 rfl rfl)
theorem dX2_fires_58 : decode cX2_fires 58 = .ok (.aload_n 1, 1) := dk_43 (dk_at dksX2_fires_2 10 rfl rfl)
theorem dX2_fires_59 : decode cX2_fires 59 = .ok (.getfield 173, 3) := dk_180 0 173 (dk_at dksX2_fires_2 11 rfl rfl)
theorem dX2_fires_62 : decode cX2_fires 62 = .ok (.invokevirtual 194, 3) := dk_182 0 194 (dk_at dksX2_fires_2 14 rfl rfl)
theorem dX2_fires_65 : decode cX2_fires 65 = .ok (.checkcast 83, 3) := dk_192 0 83 (dk_at dksX2_fires_2 17 rfl rfl)
theorem dX2_fires_68 : decode cX2_fires 68 = .ok (.invokevirtual 227, 3) := dk_182 0 227 (dk_at dksX2_fires_2 20 rfl rfl)
theorem dX2_fires_71 : decode cX2_fires 71 = .ok (.return_, 1) := dk_177 (dk_at dksX2_fires_2 23 rfl rfl)
abbrev cX2_comes : ByteArray := prog_5_method_19_code
def yX2_comes : MethodName := ⟨RX2, "comes", "(LSortingLoop$Chute;LSortingLoop$Parcel;)V"⟩
def dkwX2_comes_3 : List UInt8 := [46, 4, 96, 79, 177]
abbrev dktX2_comes_3 : List UInt8 := dkwX2_comes_3 ++ []
def dkwX2_comes_2 : List UInt8 := [181, 0, 153, 42, 180, 0, 23, 44, 180, 0, 88, 43, 180, 0, 214, 160, 0, 7, 5, 167, 0, 4, 6, 92]
abbrev dktX2_comes_2 : List UInt8 := dkwX2_comes_2 ++ dktX2_comes_3
def dkwX2_comes_1 : List UInt8 := [180, 0, 214, 181, 0, 215, 43, 180, 0, 125, 44, 185, 0, 66, 2, 0, 87, 43, 89, 180, 0, 153, 4, 96]
abbrev dktX2_comes_1 : List UInt8 := dkwX2_comes_1 ++ dktX2_comes_2
def dkwX2_comes_0 : List UInt8 := [42, 180, 0, 44, 44, 180, 0, 105, 1, 182, 0, 108, 44, 4, 42, 180, 0, 122, 182, 0, 204, 44, 43]
abbrev dktX2_comes_0 : List UInt8 := dkwX2_comes_0 ++ dktX2_comes_1
theorem dksX2_comes_0 : cX2_comes.data.toList.drop 0 = dktX2_comes_0 := by decide +kernel
theorem dksX2_comes_1 : cX2_comes.data.toList.drop 23 = dktX2_comes_1 := dk_seg dksX2_comes_0 23 rfl rfl
theorem dksX2_comes_2 : cX2_comes.data.toList.drop 47 = dktX2_comes_2 := dk_seg dksX2_comes_1 24 rfl rfl
theorem dksX2_comes_3 : cX2_comes.data.toList.drop 71 = dktX2_comes_3 := dk_seg dksX2_comes_2 24 rfl rfl
theorem dX2_comes_0 : decode cX2_comes 0 = .ok (.aload_n 0, 1) := dk_42 (dk_at dksX2_comes_0 0 rfl rfl)
theorem dX2_comes_1 : decode cX2_comes 1 = .ok (.getfield 44, 3) := dk_180 0 44 (dk_at dksX2_comes_0 1 rfl rfl)
theorem dX2_comes_4 : decode cX2_comes 4 = .ok (.aload_n 2, 1) := dk_44 (dk_at dksX2_comes_0 4 rfl rfl)
theorem dX2_comes_5 : decode cX2_comes 5 = .ok (.getfield 105, 3) := dk_180 0 105 (dk_at dksX2_comes_0 5 rfl rfl)
theorem dX2_comes_8 : decode cX2_comes 8 = .ok (.aconst_null, 1) := dk_1 (dk_at dksX2_comes_0 8 rfl rfl)
theorem dX2_comes_9 : decode cX2_comes 9 = .ok (.invokevirtual 108, 3) := dk_182 0 108 (dk_at dksX2_comes_0 9 rfl rfl)
theorem dX2_comes_12 : decode cX2_comes 12 = .ok (.aload_n 2, 1) := dk_44 (dk_at dksX2_comes_0 12 rfl rfl)
theorem dX2_comes_13 : decode cX2_comes 13 = .ok (.iconst 1, 1) := dk_4 (dk_at dksX2_comes_0 13 rfl rfl)
theorem dX2_comes_14 : decode cX2_comes 14 = .ok (.aload_n 0, 1) := dk_42 (dk_at dksX2_comes_0 14 rfl rfl)
theorem dX2_comes_15 : decode cX2_comes 15 = .ok (.getfield 122, 3) := dk_180 0 122 (dk_at dksX2_comes_0 15 rfl rfl)
theorem dX2_comes_18 : decode cX2_comes 18 = .ok (.invokevirtual 204, 3) := dk_182 0 204 (dk_at dksX2_comes_0 18 rfl rfl)
theorem dX2_comes_21 : decode cX2_comes 21 = .ok (.aload_n 2, 1) := dk_44 (dk_at dksX2_comes_0 21 rfl rfl)
theorem dX2_comes_22 : decode cX2_comes 22 = .ok (.aload_n 1, 1) := dk_43 (dk_at dksX2_comes_0 22 rfl rfl)
theorem dX2_comes_23 : decode cX2_comes 23 = .ok (.getfield 214, 3) := dk_180 0 214 (dk_at dksX2_comes_1 0 rfl rfl)
theorem dX2_comes_26 : decode cX2_comes 26 = .ok (.putfield 215, 3) := dk_181 0 215 (dk_at dksX2_comes_1 3 rfl rfl)
theorem dX2_comes_29 : decode cX2_comes 29 = .ok (.aload_n 1, 1) := dk_43 (dk_at dksX2_comes_1 6 rfl rfl)
theorem dX2_comes_30 : decode cX2_comes 30 = .ok (.getfield 125, 3) := dk_180 0 125 (dk_at dksX2_comes_1 7 rfl rfl)
theorem dX2_comes_33 : decode cX2_comes 33 = .ok (.aload_n 2, 1) := dk_44 (dk_at dksX2_comes_1 10 rfl rfl)
theorem dX2_comes_34 : decode cX2_comes 34 = .ok (.invokeinterface 66 2, 5) := by decide +kernel
theorem dX2_comes_39 : decode cX2_comes 39 = .ok (.pop, 1) := dk_87 (dk_at dksX2_comes_1 16 rfl rfl)
theorem dX2_comes_40 : decode cX2_comes 40 = .ok (.aload_n 1, 1) := dk_43 (dk_at dksX2_comes_1 17 rfl rfl)
theorem dX2_comes_41 : decode cX2_comes 41 = .ok (.dup, 1) := dk_89 (dk_at dksX2_comes_1 18 rfl rfl)
theorem dX2_comes_42 : decode cX2_comes 42 = .ok (.getfield 153, 3) := dk_180 0 153 (dk_at dksX2_comes_1 19 rfl rfl)
theorem dX2_comes_45 : decode cX2_comes 45 = .ok (.iconst 1, 1) := dk_4 (dk_at dksX2_comes_1 22 rfl rfl)
theorem dX2_comes_46 : decode cX2_comes 46 = .ok (.iadd, 1) := dk_96 (dk_at dksX2_comes_1 23 rfl rfl)
theorem dX2_comes_47 : decode cX2_comes 47 = .ok (.putfield 153, 3) := dk_181 0 153 (dk_at dksX2_comes_2 0 rfl rfl)
theorem dX2_comes_50 : decode cX2_comes 50 = .ok (.aload_n 0, 1) := dk_42 (dk_at dksX2_comes_2 3 rfl rfl)
theorem dX2_comes_51 : decode cX2_comes 51 = .ok (.getfield 23, 3) := dk_180 0 23 (dk_at dksX2_comes_2 4 rfl rfl)
theorem dX2_comes_54 : decode cX2_comes 54 = .ok (.aload_n 2, 1) := dk_44 (dk_at dksX2_comes_2 7 rfl rfl)
theorem dX2_comes_55 : decode cX2_comes 55 = .ok (.getfield 88, 3) := dk_180 0 88 (dk_at dksX2_comes_2 8 rfl rfl)
theorem dX2_comes_58 : decode cX2_comes 58 = .ok (.aload_n 1, 1) := dk_43 (dk_at dksX2_comes_2 11 rfl rfl)
theorem dX2_comes_59 : decode cX2_comes 59 = .ok (.getfield 214, 3) := dk_180 0 214 (dk_at dksX2_comes_2 12 rfl rfl)
theorem dX2_comes_62 : decode cX2_comes 62 = .ok (.if_icmp .ne 7, 3) := dk_160 0 7 (dk_at dksX2_comes_2 15 rfl rfl)
theorem dX2_comes_65 : decode cX2_comes 65 = .ok (.iconst 2, 1) := dk_5 (dk_at dksX2_comes_2 18 rfl rfl)
theorem dX2_comes_66 : decode cX2_comes 66 = .ok (.goto 4, 3) := dk_167 0 4 (dk_at dksX2_comes_2 19 rfl rfl)
theorem dX2_comes_69 : decode cX2_comes 69 = .ok (.iconst 3, 1) := dk_6 (dk_at dksX2_comes_2 22 rfl rfl)
theorem dX2_comes_70 : decode cX2_comes 70 = .ok (.dup2, 1) := dk_92 (dk_at dksX2_comes_2 23 rfl rfl)
theorem dX2_comes_71 : decode cX2_comes 71 = .ok (.iaload, 1) := dk_46 (dk_at dksX2_comes_3 0 rfl rfl)
theorem dX2_comes_72 : decode cX2_comes 72 = .ok (.iconst 1, 1) := dk_4 (dk_at dksX2_comes_3 1 rfl rfl)
theorem dX2_comes_73 : decode cX2_comes 73 = .ok (.iadd, 1) := dk_96 (dk_at dksX2_comes_3 2 rfl rfl)
theorem dX2_comes_74 : decode cX2_comes 74 = .ok (.iastore, 1) := dk_79 (dk_at dksX2_comes_3 3 rfl rfl)
theorem dX2_comes_75 : decode cX2_comes 75 = .ok (.return_, 1) := dk_177 (dk_at dksX2_comes_3 4 rfl rfl)
theorem q139 : (Jvm.Cond.initialized "SortingLoop$Loop") ∈ lw_all := lw_g (lw_at lw_m1 2 rfl) rfl
theorem q203 : (Jvm.Cond.instantiable "SortingLoop$Loop" (9 : Nat)) ∈ lw_all := lw_g (lw_at lw_m1 66 rfl) rfl
theorem q205 : (Jvm.Cond.instanceMethod ({ cls := "SortingLoop$Loop", name := "<init>", desc := "(II)V" } : Jvm.MethodName)) ∈ lw_all := lw_g (lw_at lw_m1 68 rfl) rfl
theorem q206 : (Jvm.Cond.code ({ cls := "SortingLoop$Loop", name := "<init>", desc := "(II)V" } : Jvm.MethodName) prog_5_method_1_code (3 : Nat) (Option.none : Option Jvm.ClassFile.FieldType)) ∈ lw_all := lw_g (lw_at lw_m1 69 rfl) rfl
theorem q207 : (Jvm.Cond.methodLink "SortingLoop$Loop" (3 : Nat) ({ cls := "java/lang/Object", name := "<init>", desc := "()V" } : Jvm.MethodName)) ∈ lw_all := lw_g (lw_at lw_m1 70 rfl) rfl
theorem q210 : (Jvm.Cond.classLink "SortingLoop$Loop" (9 : Nat) "java/util/ArrayList") ∈ lw_all := lw_g (lw_at lw_m1 73 rfl) rfl
theorem q212 : (Jvm.Cond.methodLink "SortingLoop$Loop" (11 : Nat) ({ cls := "java/util/ArrayList", name := "<init>", desc := "(I)V" } : Jvm.MethodName)) ∈ lw_all := lw_g (lw_at lw_m1 75 rfl) rfl
theorem q565 : (Jvm.Cond.classLink "SortingLoop$Loop" (41 : Nat) "SortingLoop$Places") ∈ lw_all := lw_g (lw_at lw_m2 188 rfl) rfl
theorem q567 : (Jvm.Cond.methodLink "SortingLoop$Loop" (43 : Nat) ({ cls := "SortingLoop$Places", name := "<init>", desc := "(I)V" } : Jvm.MethodName)) ∈ lw_all := lw_g (lw_at lw_m2 190 rfl) rfl
theorem q609 : (Jvm.Cond.selects "SortingLoop$Loop" ({ cls := "java/lang/Object", name := "getClass", desc := "()Ljava/lang/Class;" } : Jvm.MethodName) ({ cls := "java/lang/Object", name := "getClass", desc := "()Ljava/lang/Class;" } : Jvm.MethodName)) ∈ lw_all := lw_g (lw_at lw_m2 232 rfl) rfl
theorem q684 : (Jvm.Cond.fieldLink "SortingLoop$Loop" (31 : Nat) "SortingLoop$Loop" "cells" "I") ∈ lw_all := lw_g (lw_at lw_m3 67 rfl) rfl
theorem q687 : (Jvm.Cond.fieldLink "SortingLoop$Loop" (34 : Nat) "SortingLoop$Loop" "in" "I") ∈ lw_all := lw_g (lw_at lw_m3 70 rfl) rfl
theorem q689 : (Jvm.Cond.fieldLink "SortingLoop$Loop" (37 : Nat) "SortingLoop$Loop" "scanners" "[Z") ∈ lw_all := lw_g (lw_at lw_m3 72 rfl) rfl
theorem q692 : (Jvm.Cond.fieldLink "SortingLoop$Loop" (14 : Nat) "SortingLoop$Loop" "chutes" "Ljava/util/List;") ∈ lw_all := lw_g (lw_at lw_m3 75 rfl) rfl
theorem q696 : (Jvm.Cond.fieldLink "SortingLoop$Loop" (20 : Nat) "SortingLoop$Loop" "parcels" "Ljava/util/List;") ∈ lw_all := lw_g (lw_at lw_m3 79 rfl) rfl
theorem q699 : (Jvm.Cond.fieldLink "SortingLoop$Loop" (44 : Nat) "SortingLoop$Loop" "ring" "LSortingLoop$Places;") ∈ lw_all := lw_g (lw_at lw_m3 82 rfl) rfl
theorem q701 : (Jvm.Cond.fieldLink "SortingLoop$Loop" (23 : Nat) "SortingLoop$Loop" "accounts" "[I") ∈ lw_all := lw_g (lw_at lw_m3 84 rfl) rfl
theorem q704 : (Jvm.Cond.fieldLink "SortingLoop$Loop" (122 : Nat) "SortingLoop$Loop" "tick" "I") ∈ lw_all := lw_g (lw_at lw_m3 87 rfl) rfl
theorem q706 : (Jvm.Cond.fieldLink "SortingLoop$Loop" (27 : Nat) "SortingLoop$Loop" "rounds" "I") ∈ lw_all := lw_g (lw_at lw_m3 89 rfl) rfl
theorem q709 : (Jvm.Cond.laysFinal "SortingLoop$Loop" "SortingLoop$Loop" "cells" "I") ∈ lw_all := lw_g (lw_at lw_m3 92 rfl) rfl
theorem q710 : (Jvm.Cond.soleField "SortingLoop$Loop" "cells") ∈ lw_all := lw_g (lw_at lw_m3 93 rfl) rfl
theorem q711 : (Jvm.Cond.laysFinal "SortingLoop$Loop" "SortingLoop$Loop" "in" "I") ∈ lw_all := lw_g (lw_at lw_m3 94 rfl) rfl
theorem q712 : (Jvm.Cond.soleField "SortingLoop$Loop" "in") ∈ lw_all := lw_g (lw_at lw_m3 95 rfl) rfl
theorem q713 : (Jvm.Cond.laysFinal "SortingLoop$Loop" "SortingLoop$Loop" "scanners" "[Z") ∈ lw_all := lw_g (lw_at lw_m3 96 rfl) rfl
theorem q714 : (Jvm.Cond.soleField "SortingLoop$Loop" "scanners") ∈ lw_all := lw_g (lw_at lw_m3 97 rfl) rfl
theorem q715 : (Jvm.Cond.laysFinal "SortingLoop$Loop" "SortingLoop$Loop" "chutes" "Ljava/util/List;") ∈ lw_all := lw_g (lw_at lw_m3 98 rfl) rfl
theorem q716 : (Jvm.Cond.soleField "SortingLoop$Loop" "chutes") ∈ lw_all := lw_g (lw_at lw_m3 99 rfl) rfl
theorem q717 : (Jvm.Cond.laysFinal "SortingLoop$Loop" "SortingLoop$Loop" "parcels" "Ljava/util/List;") ∈ lw_all := lw_g (lw_at lw_m3 100 rfl) rfl
theorem q718 : (Jvm.Cond.soleField "SortingLoop$Loop" "parcels") ∈ lw_all := lw_g (lw_at lw_m3 101 rfl) rfl
theorem q719 : (Jvm.Cond.laysFinal "SortingLoop$Loop" "SortingLoop$Loop" "ring" "LSortingLoop$Places;") ∈ lw_all := lw_g (lw_at lw_m3 102 rfl) rfl
theorem q720 : (Jvm.Cond.soleField "SortingLoop$Loop" "ring") ∈ lw_all := lw_g (lw_at lw_m3 103 rfl) rfl
theorem q721 : (Jvm.Cond.laysFinal "SortingLoop$Loop" "SortingLoop$Loop" "accounts" "[I") ∈ lw_all := lw_g (lw_at lw_m3 104 rfl) rfl
theorem q722 : (Jvm.Cond.soleField "SortingLoop$Loop" "accounts") ∈ lw_all := lw_g (lw_at lw_m3 105 rfl) rfl
theorem q723 : (Jvm.Cond.lays "SortingLoop$Loop" "SortingLoop$Loop" "tick" "I") ∈ lw_all := lw_g (lw_at lw_m3 106 rfl) rfl
theorem q724 : (Jvm.Cond.soleField "SortingLoop$Loop" "tick") ∈ lw_all := lw_g (lw_at lw_m3 107 rfl) rfl
theorem q725 : (Jvm.Cond.lays "SortingLoop$Loop" "SortingLoop$Loop" "rounds" "I") ∈ lw_all := lw_g (lw_at lw_m3 108 rfl) rfl
theorem q726 : (Jvm.Cond.soleField "SortingLoop$Loop" "rounds") ∈ lw_all := lw_g (lw_at lw_m3 109 rfl) rfl
theorem q727 : (Jvm.Cond.superclass "SortingLoop$Loop" "java/lang/Object") ∈ lw_all := lw_g (lw_at lw_m3 110 rfl) rfl
theorem q756 : (Jvm.Cond.fieldLinkNest "SortingLoop$Loop" (214 : Nat) "SortingLoop$Chute" "number" "I" "SortingLoop") ∈ lw_tbl := lw_at lw_m3 139 rfl
theorem q758 : (Jvm.Cond.fieldLinkNest "SortingLoop$Loop" (173 : Nat) "SortingLoop$Chute" "cell" "I" "SortingLoop") ∈ lw_tbl := lw_at lw_m3 141 rfl
theorem q763 : (Jvm.Cond.fieldLinkNest "SortingLoop$Loop" (220 : Nat) "SortingLoop$Chute" "reset" "I" "SortingLoop") ∈ lw_tbl := lw_at lw_m3 146 rfl
theorem q766 : (Jvm.Cond.fieldLinkNest "SortingLoop$Loop" (125 : Nat) "SortingLoop$Chute" "held" "Ljava/util/List;" "SortingLoop") ∈ lw_tbl := lw_at lw_m3 149 rfl
theorem q769 : (Jvm.Cond.fieldLinkNest "SortingLoop$Loop" (147 : Nat) "SortingLoop$Chute" "window" "I" "SortingLoop") ∈ lw_tbl := lw_at lw_m3 152 rfl
theorem q771 : (Jvm.Cond.fieldLinkNest "SortingLoop$Loop" (150 : Nat) "SortingLoop$Chute" "rest" "I" "SortingLoop") ∈ lw_tbl := lw_at lw_m3 154 rfl
theorem q773 : (Jvm.Cond.fieldLinkNest "SortingLoop$Loop" (153 : Nat) "SortingLoop$Chute" "got" "I" "SortingLoop") ∈ lw_tbl := lw_at lw_m3 156 rfl
theorem q776 : (Jvm.Cond.fieldLinkNest "SortingLoop$Loop" (156 : Nat) "SortingLoop$Chute" "open" "Z" "SortingLoop") ∈ lw_tbl := lw_at lw_m3 159 rfl
theorem q823 : (Jvm.Cond.instanceMethod ({ cls := "SortingLoop$Loop", name := "twin", desc := "()LSortingLoop$Loop;" } : Jvm.MethodName)) ∈ lw_all := lw_g (lw_at lw_m3 206 rfl) rfl
theorem q824 : (Jvm.Cond.selects "SortingLoop$Loop" ({ cls := "SortingLoop$Loop", name := "twin", desc := "()LSortingLoop$Loop;" } : Jvm.MethodName) ({ cls := "SortingLoop$Loop", name := "twin", desc := "()LSortingLoop$Loop;" } : Jvm.MethodName)) ∈ lw_all := lw_g (lw_at lw_m3 207 rfl) rfl
theorem q825 : (Jvm.Cond.code ({ cls := "SortingLoop$Loop", name := "twin", desc := "()LSortingLoop$Loop;" } : Jvm.MethodName) prog_5_method_2_code (3 : Nat) (Option.some (Jvm.ClassFile.FieldType.object "SortingLoop$Loop"))) ∈ lw_all := lw_g (lw_at lw_m3 208 rfl) rfl
theorem q826 : (Jvm.Cond.classLink "SortingLoop$Loop" (15 : Nat) "SortingLoop$Loop") ∈ lw_all := lw_g (lw_at lw_m3 209 rfl) rfl
theorem q827 : (Jvm.Cond.methodLink "SortingLoop$Loop" (48 : Nat) ({ cls := "SortingLoop$Loop", name := "<init>", desc := "(II)V" } : Jvm.MethodName)) ∈ lw_all := lw_g (lw_at lw_m3 210 rfl) rfl
theorem q828 : (Jvm.Cond.interfaceEntry "SortingLoop$Loop" (51 : Nat)) ∈ lw_tbl := lw_at lw_m3 211 rfl
theorem q829 : (Jvm.Cond.methodLink "SortingLoop$Loop" (51 : Nat) ({ cls := "java/util/List", name := "size", desc := "()I" } : Jvm.MethodName)) ∈ lw_all := lw_g (lw_at lw_m3 212 rfl) rfl
theorem q842 : (Jvm.Cond.classLink "SortingLoop$Loop" (57 : Nat) "SortingLoop$Chute") ∈ lw_all := lw_g (lw_at lw_m3 225 rfl) rfl
theorem q843 : (Jvm.Cond.methodLink "SortingLoop$Loop" (59 : Nat) ({ cls := "SortingLoop$Loop", name := "chute", desc := "(I)LSortingLoop$Chute;" } : Jvm.MethodName)) ∈ lw_all := lw_g (lw_at lw_m3 226 rfl) rfl
theorem q844 : (Jvm.Cond.instanceMethod ({ cls := "SortingLoop$Loop", name := "chute", desc := "(I)LSortingLoop$Chute;" } : Jvm.MethodName)) ∈ lw_all := lw_g (lw_at lw_m3 227 rfl) rfl
theorem q845 : (Jvm.Cond.selects "SortingLoop$Loop" ({ cls := "SortingLoop$Loop", name := "chute", desc := "(I)LSortingLoop$Chute;" } : Jvm.MethodName) ({ cls := "SortingLoop$Loop", name := "chute", desc := "(I)LSortingLoop$Chute;" } : Jvm.MethodName)) ∈ lw_all := lw_g (lw_at lw_m3 228 rfl) rfl
theorem q846 : (Jvm.Cond.code ({ cls := "SortingLoop$Loop", name := "chute", desc := "(I)LSortingLoop$Chute;" } : Jvm.MethodName) prog_5_method_5_code (2 : Nat) (Option.some (Jvm.ClassFile.FieldType.object "SortingLoop$Chute"))) ∈ lw_all := lw_g (lw_at lw_m3 229 rfl) rfl
theorem q847 : (Jvm.Cond.interfaceEntry "SortingLoop$Loop" (160 : Nat)) ∈ lw_tbl := lw_at lw_m3 230 rfl
theorem q848 : (Jvm.Cond.methodLink "SortingLoop$Loop" (160 : Nat) ({ cls := "java/util/List", name := "get", desc := "(I)Ljava/lang/Object;" } : Jvm.MethodName)) ∈ lw_all := lw_g (lw_at lw_m3 231 rfl) rfl
theorem q909 : (Jvm.Cond.methodLink "SortingLoop$Loop" (63 : Nat) ({ cls := "SortingLoop$Chute", name := "<init>", desc := "(LSortingLoop$Chute;)V" } : Jvm.MethodName)) ∈ lw_all := lw_g (lw_at lw_m4 52 rfl) rfl
theorem q913 : (Jvm.Cond.interfaceEntry "SortingLoop$Loop" (66 : Nat)) ∈ lw_tbl := lw_at lw_m4 56 rfl
theorem q914 : (Jvm.Cond.methodLink "SortingLoop$Loop" (66 : Nat) ({ cls := "java/util/List", name := "add", desc := "(Ljava/lang/Object;)Z" } : Jvm.MethodName)) ∈ lw_all := lw_g (lw_at lw_m4 57 rfl) rfl
theorem q915 : (Jvm.Cond.methodLink "SortingLoop$Loop" (70 : Nat) ({ cls := "SortingLoop$Loop", name := "takes", desc := "(LSortingLoop$Loop;)LSortingLoop$Loop;" } : Jvm.MethodName)) ∈ lw_all := lw_g (lw_at lw_m4 58 rfl) rfl
theorem q916 : (Jvm.Cond.instanceMethod ({ cls := "SortingLoop$Loop", name := "takes", desc := "(LSortingLoop$Loop;)LSortingLoop$Loop;" } : Jvm.MethodName)) ∈ lw_all := lw_g (lw_at lw_m4 59 rfl) rfl
theorem q917 : (Jvm.Cond.selects "SortingLoop$Loop" ({ cls := "SortingLoop$Loop", name := "takes", desc := "(LSortingLoop$Loop;)LSortingLoop$Loop;" } : Jvm.MethodName) ({ cls := "SortingLoop$Loop", name := "takes", desc := "(LSortingLoop$Loop;)LSortingLoop$Loop;" } : Jvm.MethodName)) ∈ lw_all := lw_g (lw_at lw_m4 60 rfl) rfl
theorem q918 : (Jvm.Cond.code ({ cls := "SortingLoop$Loop", name := "takes", desc := "(LSortingLoop$Loop;)LSortingLoop$Loop;" } : Jvm.MethodName) prog_5_method_3_code (4 : Nat) (Option.some (Jvm.ClassFile.FieldType.object "SortingLoop$Loop"))) ∈ lw_all := lw_g (lw_at lw_m4 61 rfl) rfl
theorem q919 : (Jvm.Cond.interfaceEntry "SortingLoop$Loop" (74 : Nat)) ∈ lw_tbl := lw_at lw_m4 62 rfl
theorem q920 : (Jvm.Cond.methodLink "SortingLoop$Loop" (74 : Nat) ({ cls := "java/util/List", name := "remove", desc := "(I)Ljava/lang/Object;" } : Jvm.MethodName)) ∈ lw_all := lw_g (lw_at lw_m4 63 rfl) rfl
theorem q942 : (Jvm.Cond.methodLink "SortingLoop$Loop" (78 : Nat) ({ cls := "SortingLoop$Loop", name := "parcel", desc := "(I)LSortingLoop$Parcel;" } : Jvm.MethodName)) ∈ lw_all := lw_g (lw_at lw_m4 85 rfl) rfl
theorem q943 : (Jvm.Cond.instanceMethod ({ cls := "SortingLoop$Loop", name := "parcel", desc := "(I)LSortingLoop$Parcel;" } : Jvm.MethodName)) ∈ lw_all := lw_g (lw_at lw_m4 86 rfl) rfl
theorem q944 : (Jvm.Cond.selects "SortingLoop$Loop" ({ cls := "SortingLoop$Loop", name := "parcel", desc := "(I)LSortingLoop$Parcel;" } : Jvm.MethodName) ({ cls := "SortingLoop$Loop", name := "parcel", desc := "(I)LSortingLoop$Parcel;" } : Jvm.MethodName)) ∈ lw_all := lw_g (lw_at lw_m4 87 rfl) rfl
theorem q945 : (Jvm.Cond.code ({ cls := "SortingLoop$Loop", name := "parcel", desc := "(I)LSortingLoop$Parcel;" } : Jvm.MethodName) prog_5_method_6_code (2 : Nat) (Option.some (Jvm.ClassFile.FieldType.object "SortingLoop$Parcel"))) ∈ lw_all := lw_g (lw_at lw_m4 88 rfl) rfl
theorem q946 : (Jvm.Cond.classLink "SortingLoop$Loop" (83 : Nat) "SortingLoop$Parcel") ∈ lw_all := lw_g (lw_at lw_m4 89 rfl) rfl
theorem q947 : (Jvm.Cond.methodLink "SortingLoop$Loop" (82 : Nat) ({ cls := "SortingLoop$Parcel", name := "twin", desc := "()LSortingLoop$Parcel;" } : Jvm.MethodName)) ∈ lw_all := lw_g (lw_at lw_m4 90 rfl) rfl
theorem q958 : (Jvm.Cond.fieldLinkNest "SortingLoop$Loop" (144 : Nat) "SortingLoop$Parcel" "number" "I" "SortingLoop") ∈ lw_tbl := lw_at lw_m4 101 rfl
theorem q961 : (Jvm.Cond.fieldLinkNest "SortingLoop$Loop" (88 : Nat) "SortingLoop$Parcel" "dest" "I" "SortingLoop") ∈ lw_tbl := lw_at lw_m4 104 rfl
theorem q965 : (Jvm.Cond.fieldLinkNest "SortingLoop$Loop" (207 : Nat) "SortingLoop$Parcel" "torn" "I" "SortingLoop") ∈ lw_tbl := lw_at lw_m4 108 rfl
theorem q968 : (Jvm.Cond.fieldLinkNest "SortingLoop$Loop" (202 : Nat) "SortingLoop$Parcel" "laps" "I" "SortingLoop") ∈ lw_tbl := lw_at lw_m4 111 rfl
theorem q971 : (Jvm.Cond.fieldLinkNest "SortingLoop$Loop" (178 : Nat) "SortingLoop$Parcel" "what" "I" "SortingLoop") ∈ lw_tbl := lw_at lw_m4 114 rfl
theorem q974 : (Jvm.Cond.fieldLinkNest "SortingLoop$Loop" (105 : Nat) "SortingLoop$Parcel" "cell" "I" "SortingLoop") ∈ lw_tbl := lw_at lw_m4 117 rfl
theorem q977 : (Jvm.Cond.fieldLinkNest "SortingLoop$Loop" (166 : Nat) "SortingLoop$Parcel" "track" "I" "SortingLoop") ∈ lw_tbl := lw_at lw_m4 120 rfl
theorem q980 : (Jvm.Cond.fieldLinkNest "SortingLoop$Loop" (215 : Nat) "SortingLoop$Parcel" "chute" "I" "SortingLoop") ∈ lw_tbl := lw_at lw_m4 123 rfl
theorem q985 : (Jvm.Cond.fieldLinkNest "SortingLoop$Loop" (188 : Nat) "SortingLoop$Parcel" "slipped" "Z" "SortingLoop") ∈ lw_tbl := lw_at lw_m4 128 rfl
theorem q1012 : (Jvm.Cond.interfaceEntry "SortingLoop$Loop" (91 : Nat)) ∈ lw_tbl := lw_at lw_m4 155 rfl
theorem q1013 : (Jvm.Cond.methodLink "SortingLoop$Loop" (91 : Nat) ({ cls := "java/util/List", name := "set", desc := "(ILjava/lang/Object;)Ljava/lang/Object;" } : Jvm.MethodName)) ∈ lw_all := lw_g (lw_at lw_m4 156 rfl) rfl
theorem q1026 : (Jvm.Cond.methodLink "SortingLoop$Loop" (95 : Nat) ({ cls := "SortingLoop$Parcel", name := "takes", desc := "(LSortingLoop$Parcel;)LSortingLoop$Parcel;" } : Jvm.MethodName)) ∈ lw_all := lw_g (lw_at lw_m4 169 rfl) rfl
theorem q1027 : (Jvm.Cond.methodLink "SortingLoop$Loop" (98 : Nat) ({ cls := "SortingLoop$Places", name := "clears", desc := "()V" } : Jvm.MethodName)) ∈ lw_all := lw_g (lw_at lw_m4 170 rfl) rfl
theorem q1040 : (Jvm.Cond.methodLink "SortingLoop$Loop" (101 : Nat) ({ cls := "SortingLoop$Parcel", name := "isOn", desc := "()Z" } : Jvm.MethodName)) ∈ lw_all := lw_g (lw_at lw_m4 183 rfl) rfl
theorem q1044 : (Jvm.Cond.methodLink "SortingLoop$Loop" (108 : Nat) ({ cls := "SortingLoop$Places", name := "lays", desc := "(ILSortingLoop$Numbered;)V" } : Jvm.MethodName)) ∈ lw_all := lw_g (lw_at lw_m4 187 rfl) rfl
theorem q1045 : (Jvm.Cond.methodLink "SortingLoop$Loop" (112 : Nat) ({ cls := "SortingLoop$Loop", name := "fills", desc := "(LSortingLoop$Chute;LSortingLoop$Chute;)V" } : Jvm.MethodName)) ∈ lw_all := lw_g (lw_at lw_m4 188 rfl) rfl
theorem q1046 : (Jvm.Cond.privateMethod ({ cls := "SortingLoop$Loop", name := "fills", desc := "(LSortingLoop$Chute;LSortingLoop$Chute;)V" } : Jvm.MethodName)) ∈ lw_tbl := lw_at lw_m4 189 rfl
theorem q1047 : (Jvm.Cond.instanceMethod ({ cls := "SortingLoop$Loop", name := "fills", desc := "(LSortingLoop$Chute;LSortingLoop$Chute;)V" } : Jvm.MethodName)) ∈ lw_all := lw_g (lw_at lw_m4 190 rfl) rfl
theorem q1048 : (Jvm.Cond.code ({ cls := "SortingLoop$Loop", name := "fills", desc := "(LSortingLoop$Chute;LSortingLoop$Chute;)V" } : Jvm.MethodName) prog_5_method_4_code (5 : Nat) (Option.none : Option Jvm.ClassFile.FieldType)) ∈ lw_all := lw_g (lw_at lw_m4 191 rfl) rfl
theorem q1049 : (Jvm.Cond.interfaceEntry "SortingLoop$Loop" (128 : Nat)) ∈ lw_tbl := lw_at lw_m4 192 rfl
theorem q1050 : (Jvm.Cond.methodLink "SortingLoop$Loop" (128 : Nat) ({ cls := "java/util/List", name := "clear", desc := "()V" } : Jvm.MethodName)) ∈ lw_all := lw_g (lw_at lw_m4 193 rfl) rfl
theorem q1063 : (Jvm.Cond.interfaceEntry "SortingLoop$Loop" (131 : Nat)) ∈ lw_tbl := lw_at lw_m4 206 rfl
theorem q1064 : (Jvm.Cond.methodLink "SortingLoop$Loop" (131 : Nat) ({ cls := "java/util/List", name := "iterator", desc := "()Ljava/util/Iterator;" } : Jvm.MethodName)) ∈ lw_all := lw_g (lw_at lw_m4 207 rfl) rfl
theorem q1171 : (Jvm.Cond.interfaceEntry "SortingLoop$Loop" (135 : Nat)) ∈ lw_tbl := lw_at lw_m5 74 rfl
theorem q1172 : (Jvm.Cond.methodLink "SortingLoop$Loop" (135 : Nat) ({ cls := "java/util/Iterator", name := "hasNext", desc := "()Z" } : Jvm.MethodName)) ∈ lw_all := lw_g (lw_at lw_m5 75 rfl) rfl
theorem q1201 : (Jvm.Cond.interfaceEntry "SortingLoop$Loop" (140 : Nat)) ∈ lw_tbl := lw_at lw_m5 104 rfl
theorem q1202 : (Jvm.Cond.methodLink "SortingLoop$Loop" (140 : Nat) ({ cls := "java/util/Iterator", name := "next", desc := "()Ljava/lang/Object;" } : Jvm.MethodName)) ∈ lw_all := lw_g (lw_at lw_m5 105 rfl) rfl
theorem q1321 : (Jvm.Cond.methodLink "SortingLoop$Loop" (116 : Nat) ({ cls := "java/lang/System", name := "arraycopy", desc := "(Ljava/lang/Object;ILjava/lang/Object;II)V" } : Jvm.MethodName)) ∈ lw_all := lw_g (lw_at lw_m5 224 rfl) rfl
theorem q1699 : (Jvm.Cond.instanceMethod ({ cls := "SortingLoop$Loop", name := "scannerMany", desc := "()I" } : Jvm.MethodName)) ∈ lw_all := lw_g (lw_at lw_m7 122 rfl) rfl
theorem q1700 : (Jvm.Cond.selects "SortingLoop$Loop" ({ cls := "SortingLoop$Loop", name := "scannerMany", desc := "()I" } : Jvm.MethodName) ({ cls := "SortingLoop$Loop", name := "scannerMany", desc := "()I" } : Jvm.MethodName)) ∈ lw_all := lw_g (lw_at lw_m7 123 rfl) rfl
theorem q1701 : (Jvm.Cond.code ({ cls := "SortingLoop$Loop", name := "scannerMany", desc := "()I" } : Jvm.MethodName) prog_5_method_10_code (3 : Nat) (Option.some Jvm.ClassFile.FieldType.int)) ∈ lw_all := lw_g (lw_at lw_m7 124 rfl) rfl
theorem q1702 : (Jvm.Cond.methodLinkNest "SortingLoop$Loop" (174 : Nat) ({ cls := "SortingLoop", name := "bit", desc := "(Z)I" } : Jvm.MethodName) "SortingLoop") ∈ lw_tbl := lw_at lw_m7 125 rfl
theorem q1716 : (Jvm.Cond.instanceMethod ({ cls := "SortingLoop$Loop", name := "chuteAt", desc := "(I)I" } : Jvm.MethodName)) ∈ lw_all := lw_g (lw_at lw_m7 139 rfl) rfl
theorem q1717 : (Jvm.Cond.selects "SortingLoop$Loop" ({ cls := "SortingLoop$Loop", name := "chuteAt", desc := "(I)I" } : Jvm.MethodName) ({ cls := "SortingLoop$Loop", name := "chuteAt", desc := "(I)I" } : Jvm.MethodName)) ∈ lw_all := lw_g (lw_at lw_m7 140 rfl) rfl
theorem q1718 : (Jvm.Cond.code ({ cls := "SortingLoop$Loop", name := "chuteAt", desc := "(I)I" } : Jvm.MethodName) prog_5_method_9_code (3 : Nat) (Option.some Jvm.ClassFile.FieldType.int)) ∈ lw_all := lw_g (lw_at lw_m7 141 rfl) rfl
theorem q1972 : (Jvm.Cond.instanceMethod ({ cls := "SortingLoop$Loop", name := "empties", desc := "(LSortingLoop$Chute;)I" } : Jvm.MethodName)) ∈ lw_all := lw_g (lw_at lw_m8 155 rfl) rfl
theorem q1973 : (Jvm.Cond.selects "SortingLoop$Loop" ({ cls := "SortingLoop$Loop", name := "empties", desc := "(LSortingLoop$Chute;)I" } : Jvm.MethodName) ({ cls := "SortingLoop$Loop", name := "empties", desc := "(LSortingLoop$Chute;)I" } : Jvm.MethodName)) ∈ lw_all := lw_g (lw_at lw_m8 156 rfl) rfl
theorem q1974 : (Jvm.Cond.code ({ cls := "SortingLoop$Loop", name := "empties", desc := "(LSortingLoop$Chute;)I" } : Jvm.MethodName) prog_5_method_25_code (5 : Nat) (Option.some Jvm.ClassFile.FieldType.int)) ∈ lw_all := lw_g (lw_at lw_m8 157 rfl) rfl
theorem q1989 : (Jvm.Cond.instanceMethod ({ cls := "SortingLoop$Loop", name := "opens", desc := "(LSortingLoop$Chute;Z)I" } : Jvm.MethodName)) ∈ lw_all := lw_g (lw_at lw_m8 172 rfl) rfl
theorem q1990 : (Jvm.Cond.selects "SortingLoop$Loop" ({ cls := "SortingLoop$Loop", name := "opens", desc := "(LSortingLoop$Chute;Z)I" } : Jvm.MethodName) ({ cls := "SortingLoop$Loop", name := "opens", desc := "(LSortingLoop$Chute;Z)I" } : Jvm.MethodName)) ∈ lw_all := lw_g (lw_at lw_m8 173 rfl) rfl
theorem q1991 : (Jvm.Cond.code ({ cls := "SortingLoop$Loop", name := "opens", desc := "(LSortingLoop$Chute;Z)I" } : Jvm.MethodName) prog_5_method_26_code (4 : Nat) (Option.some Jvm.ClassFile.FieldType.int)) ∈ lw_all := lw_g (lw_at lw_m8 174 rfl) rfl
theorem q1996 : (Jvm.Cond.instanceMethod ({ cls := "SortingLoop$Loop", name := "againstPut", desc := "()I" } : Jvm.MethodName)) ∈ lw_all := lw_g (lw_at lw_m8 179 rfl) rfl
theorem q1997 : (Jvm.Cond.selects "SortingLoop$Loop" ({ cls := "SortingLoop$Loop", name := "againstPut", desc := "()I" } : Jvm.MethodName) ({ cls := "SortingLoop$Loop", name := "againstPut", desc := "()I" } : Jvm.MethodName)) ∈ lw_all := lw_g (lw_at lw_m8 180 rfl) rfl
theorem q1998 : (Jvm.Cond.code ({ cls := "SortingLoop$Loop", name := "againstPut", desc := "()I" } : Jvm.MethodName) prog_5_method_12_code (1 : Nat) (Option.some Jvm.ClassFile.FieldType.int)) ∈ lw_all := lw_g (lw_at lw_m8 181 rfl) rfl
theorem q1999 : (Jvm.Cond.methodLink "SortingLoop$Loop" (181 : Nat) ({ cls := "SortingLoop$Places", name := "isFree", desc := "(I)Z" } : Jvm.MethodName)) ∈ lw_all := lw_g (lw_at lw_m8 182 rfl) rfl
theorem q2012 : (Jvm.Cond.instanceMethod ({ cls := "SortingLoop$Loop", name := "puts", desc := "(II)I" } : Jvm.MethodName)) ∈ lw_all := lw_g (lw_at lw_m8 195 rfl) rfl
theorem q2013 : (Jvm.Cond.selects "SortingLoop$Loop" ({ cls := "SortingLoop$Loop", name := "puts", desc := "(II)I" } : Jvm.MethodName) ({ cls := "SortingLoop$Loop", name := "puts", desc := "(II)I" } : Jvm.MethodName)) ∈ lw_all := lw_g (lw_at lw_m8 196 rfl) rfl
theorem q2014 : (Jvm.Cond.code ({ cls := "SortingLoop$Loop", name := "puts", desc := "(II)I" } : Jvm.MethodName) prog_5_method_13_code (4 : Nat) (Option.some Jvm.ClassFile.FieldType.int)) ∈ lw_all := lw_g (lw_at lw_m8 197 rfl) rfl
theorem q2015 : (Jvm.Cond.methodLink "SortingLoop$Loop" (185 : Nat) ({ cls := "SortingLoop$Parcel", name := "<init>", desc := "(IIII)V" } : Jvm.MethodName)) ∈ lw_all := lw_g (lw_at lw_m8 198 rfl) rfl
theorem q2026 : (Jvm.Cond.instanceMethod ({ cls := "SortingLoop$Loop", name := "sets", desc := "(II)I" } : Jvm.MethodName)) ∈ lw_all := lw_g (lw_at lw_m8 209 rfl) rfl
theorem q2027 : (Jvm.Cond.selects "SortingLoop$Loop" ({ cls := "SortingLoop$Loop", name := "sets", desc := "(II)I" } : Jvm.MethodName) ({ cls := "SortingLoop$Loop", name := "sets", desc := "(II)I" } : Jvm.MethodName)) ∈ lw_all := lw_g (lw_at lw_m8 210 rfl) rfl
theorem q2028 : (Jvm.Cond.code ({ cls := "SortingLoop$Loop", name := "sets", desc := "(II)I" } : Jvm.MethodName) prog_5_method_27_code (4 : Nat) (Option.some Jvm.ClassFile.FieldType.int)) ∈ lw_all := lw_g (lw_at lw_m8 211 rfl) rfl
theorem q2039 : (Jvm.Cond.instanceMethod ({ cls := "SortingLoop$Loop", name := "againstSlip", desc := "(LSortingLoop$Parcel;)I" } : Jvm.MethodName)) ∈ lw_all := lw_g (lw_at lw_m8 222 rfl) rfl
theorem q2040 : (Jvm.Cond.selects "SortingLoop$Loop" ({ cls := "SortingLoop$Loop", name := "againstSlip", desc := "(LSortingLoop$Parcel;)I" } : Jvm.MethodName) ({ cls := "SortingLoop$Loop", name := "againstSlip", desc := "(LSortingLoop$Parcel;)I" } : Jvm.MethodName)) ∈ lw_all := lw_g (lw_at lw_m8 223 rfl) rfl
theorem q2041 : (Jvm.Cond.code ({ cls := "SortingLoop$Loop", name := "againstSlip", desc := "(LSortingLoop$Parcel;)I" } : Jvm.MethodName) prog_5_method_14_code (2 : Nat) (Option.some Jvm.ClassFile.FieldType.int)) ∈ lw_all := lw_g (lw_at lw_m8 224 rfl) rfl
theorem q2043 : (Jvm.Cond.instanceMethod ({ cls := "SortingLoop$Loop", name := "slips", desc := "(LSortingLoop$Parcel;)I" } : Jvm.MethodName)) ∈ lw_all := lw_g (lw_at lw_m8 226 rfl) rfl
theorem q2044 : (Jvm.Cond.selects "SortingLoop$Loop" ({ cls := "SortingLoop$Loop", name := "slips", desc := "(LSortingLoop$Parcel;)I" } : Jvm.MethodName) ({ cls := "SortingLoop$Loop", name := "slips", desc := "(LSortingLoop$Parcel;)I" } : Jvm.MethodName)) ∈ lw_all := lw_g (lw_at lw_m8 227 rfl) rfl
theorem q2045 : (Jvm.Cond.code ({ cls := "SortingLoop$Loop", name := "slips", desc := "(LSortingLoop$Parcel;)I" } : Jvm.MethodName) prog_5_method_15_code (2 : Nat) (Option.some Jvm.ClassFile.FieldType.int)) ∈ lw_all := lw_g (lw_at lw_m8 228 rfl) rfl
theorem q2053 : (Jvm.Cond.instanceMethod ({ cls := "SortingLoop$Loop", name := "goes", desc := "(I)I" } : Jvm.MethodName)) ∈ lw_all := lw_g (lw_at lw_m8 236 rfl) rfl
theorem q2054 : (Jvm.Cond.selects "SortingLoop$Loop" ({ cls := "SortingLoop$Loop", name := "goes", desc := "(I)I" } : Jvm.MethodName) ({ cls := "SortingLoop$Loop", name := "goes", desc := "(I)I" } : Jvm.MethodName)) ∈ lw_all := lw_g (lw_at lw_m8 237 rfl) rfl
theorem q2055 : (Jvm.Cond.code ({ cls := "SortingLoop$Loop", name := "goes", desc := "(I)I" } : Jvm.MethodName) prog_5_method_24_code (4 : Nat) (Option.some Jvm.ClassFile.FieldType.int)) ∈ lw_all := lw_g (lw_at lw_m8 238 rfl) rfl
theorem q2056 : (Jvm.Cond.methodLink "SortingLoop$Loop" (250 : Nat) ({ cls := "SortingLoop$Loop", name := "ticks", desc := "()I" } : Jvm.MethodName)) ∈ lw_all := lw_g (lw_at lw_m8 239 rfl) rfl
theorem q2057 : (Jvm.Cond.instanceMethod ({ cls := "SortingLoop$Loop", name := "ticks", desc := "()I" } : Jvm.MethodName)) ∈ lw_all := lw_g (lw_at lw_m9 0 rfl) rfl
theorem q2058 : (Jvm.Cond.selects "SortingLoop$Loop" ({ cls := "SortingLoop$Loop", name := "ticks", desc := "()I" } : Jvm.MethodName) ({ cls := "SortingLoop$Loop", name := "ticks", desc := "()I" } : Jvm.MethodName)) ∈ lw_all := lw_g (lw_at lw_m9 1 rfl) rfl
theorem q2059 : (Jvm.Cond.code ({ cls := "SortingLoop$Loop", name := "ticks", desc := "()I" } : Jvm.MethodName) prog_5_method_23_code (4 : Nat) (Option.some Jvm.ClassFile.FieldType.int)) ∈ lw_all := lw_g (lw_at lw_m9 2 rfl) rfl
theorem q2060 : (Jvm.Cond.methodLink "SortingLoop$Loop" (230 : Nat) ({ cls := "SortingLoop$Loop", name := "those", desc := "(I)I" } : Jvm.MethodName)) ∈ lw_all := lw_g (lw_at lw_m9 3 rfl) rfl
theorem q2061 : (Jvm.Cond.instanceMethod ({ cls := "SortingLoop$Loop", name := "those", desc := "(I)I" } : Jvm.MethodName)) ∈ lw_all := lw_g (lw_at lw_m9 4 rfl) rfl
theorem q2062 : (Jvm.Cond.selects "SortingLoop$Loop" ({ cls := "SortingLoop$Loop", name := "those", desc := "(I)I" } : Jvm.MethodName) ({ cls := "SortingLoop$Loop", name := "those", desc := "(I)I" } : Jvm.MethodName)) ∈ lw_all := lw_g (lw_at lw_m9 5 rfl) rfl
theorem q2063 : (Jvm.Cond.code ({ cls := "SortingLoop$Loop", name := "those", desc := "(I)I" } : Jvm.MethodName) prog_5_method_11_code (4 : Nat) (Option.some Jvm.ClassFile.FieldType.int)) ∈ lw_all := lw_g (lw_at lw_m9 6 rfl) rfl
theorem q2064 : (Jvm.Cond.methodLink "SortingLoop$Loop" (234 : Nat) ({ cls := "java/lang/Math", name := "max", desc := "(II)I" } : Jvm.MethodName)) ∈ lw_all := lw_g (lw_at lw_m9 7 rfl) rfl
theorem q2065 : (Jvm.Cond.methodLink "SortingLoop$Loop" (239 : Nat) ({ cls := "SortingLoop$Loop", name := "turns", desc := "()V" } : Jvm.MethodName)) ∈ lw_all := lw_g (lw_at lw_m9 8 rfl) rfl
theorem q2066 : (Jvm.Cond.privateMethod ({ cls := "SortingLoop$Loop", name := "turns", desc := "()V" } : Jvm.MethodName)) ∈ lw_tbl := lw_at lw_m9 9 rfl
theorem q2067 : (Jvm.Cond.instanceMethod ({ cls := "SortingLoop$Loop", name := "turns", desc := "()V" } : Jvm.MethodName)) ∈ lw_all := lw_g (lw_at lw_m9 10 rfl) rfl
theorem q2068 : (Jvm.Cond.code ({ cls := "SortingLoop$Loop", name := "turns", desc := "()V" } : Jvm.MethodName) prog_5_method_16_code (2 : Nat) (Option.none : Option Jvm.ClassFile.FieldType)) ∈ lw_all := lw_g (lw_at lw_m9 11 rfl) rfl
theorem q2069 : (Jvm.Cond.methodLink "SortingLoop$Loop" (191 : Nat) ({ cls := "SortingLoop$Places", name := "turns", desc := "()V" } : Jvm.MethodName)) ∈ lw_all := lw_g (lw_at lw_m9 12 rfl) rfl
theorem q2095 : (Jvm.Cond.methodLink "SortingLoop$Loop" (194 : Nat) ({ cls := "SortingLoop$Places", name := "at", desc := "(I)LSortingLoop$Numbered;" } : Jvm.MethodName)) ∈ lw_all := lw_g (lw_at lw_m9 38 rfl) rfl
theorem q2099 : (Jvm.Cond.methodLink "SortingLoop$Loop" (163 : Nat) ({ cls := "SortingLoop$Parcel", name := "isTracked", desc := "()Z" } : Jvm.MethodName)) ∈ lw_all := lw_g (lw_at lw_m9 42 rfl) rfl
theorem q2103 : (Jvm.Cond.methodLink "SortingLoop$Loop" (198 : Nat) ({ cls := "SortingLoop$Loop", name := "laps", desc := "(LSortingLoop$Parcel;)V" } : Jvm.MethodName)) ∈ lw_all := lw_g (lw_at lw_m9 46 rfl) rfl
theorem q2104 : (Jvm.Cond.privateMethod ({ cls := "SortingLoop$Loop", name := "laps", desc := "(LSortingLoop$Parcel;)V" } : Jvm.MethodName)) ∈ lw_tbl := lw_at lw_m9 47 rfl
theorem q2105 : (Jvm.Cond.instanceMethod ({ cls := "SortingLoop$Loop", name := "laps", desc := "(LSortingLoop$Parcel;)V" } : Jvm.MethodName)) ∈ lw_all := lw_g (lw_at lw_m9 48 rfl) rfl
theorem q2106 : (Jvm.Cond.code ({ cls := "SortingLoop$Loop", name := "laps", desc := "(LSortingLoop$Parcel;)V" } : Jvm.MethodName) prog_5_method_17_code (2 : Nat) (Option.none : Option Jvm.ClassFile.FieldType)) ∈ lw_all := lw_g (lw_at lw_m9 49 rfl) rfl
theorem q2107 : (Jvm.Cond.methodLink "SortingLoop$Loop" (204 : Nat) ({ cls := "SortingLoop$Parcel", name := "leaves", desc := "(II)V" } : Jvm.MethodName)) ∈ lw_all := lw_g (lw_at lw_m9 50 rfl) rfl
theorem q2111 : (Jvm.Cond.methodLink "SortingLoop$Loop" (240 : Nat) ({ cls := "SortingLoop$Loop", name := "scans", desc := "(LSortingLoop$Parcel;)V" } : Jvm.MethodName)) ∈ lw_all := lw_g (lw_at lw_m9 54 rfl) rfl
theorem q2112 : (Jvm.Cond.privateMethod ({ cls := "SortingLoop$Loop", name := "scans", desc := "(LSortingLoop$Parcel;)V" } : Jvm.MethodName)) ∈ lw_tbl := lw_at lw_m9 55 rfl
theorem q2113 : (Jvm.Cond.instanceMethod ({ cls := "SortingLoop$Loop", name := "scans", desc := "(LSortingLoop$Parcel;)V" } : Jvm.MethodName)) ∈ lw_all := lw_g (lw_at lw_m9 56 rfl) rfl
theorem q2114 : (Jvm.Cond.code ({ cls := "SortingLoop$Loop", name := "scans", desc := "(LSortingLoop$Parcel;)V" } : Jvm.MethodName) prog_5_method_18_code (2 : Nat) (Option.none : Option Jvm.ClassFile.FieldType)) ∈ lw_all := lw_g (lw_at lw_m9 57 rfl) rfl
theorem q2115 : (Jvm.Cond.methodLink "SortingLoop$Loop" (210 : Nat) ({ cls := "SortingLoop$Loop", name := "lag", desc := "(LSortingLoop$Parcel;)I" } : Jvm.MethodName)) ∈ lw_all := lw_g (lw_at lw_m9 58 rfl) rfl
theorem q2116 : (Jvm.Cond.instanceMethod ({ cls := "SortingLoop$Loop", name := "lag", desc := "(LSortingLoop$Parcel;)I" } : Jvm.MethodName)) ∈ lw_all := lw_g (lw_at lw_m9 59 rfl) rfl
theorem q2117 : (Jvm.Cond.selects "SortingLoop$Loop" ({ cls := "SortingLoop$Loop", name := "lag", desc := "(LSortingLoop$Parcel;)I" } : Jvm.MethodName) ({ cls := "SortingLoop$Loop", name := "lag", desc := "(LSortingLoop$Parcel;)I" } : Jvm.MethodName)) ∈ lw_all := lw_g (lw_at lw_m9 60 rfl) rfl
theorem q2118 : (Jvm.Cond.code ({ cls := "SortingLoop$Loop", name := "lag", desc := "(LSortingLoop$Parcel;)I" } : Jvm.MethodName) prog_5_method_8_code (2 : Nat) (Option.some Jvm.ClassFile.FieldType.int)) ∈ lw_all := lw_g (lw_at lw_m9 61 rfl) rfl
theorem q2119 : (Jvm.Cond.methodLink "SortingLoop$Loop" (169 : Nat) ({ cls := "SortingLoop$Loop", name := "steps", desc := "(II)I" } : Jvm.MethodName)) ∈ lw_all := lw_g (lw_at lw_m9 62 rfl) rfl
theorem q2120 : (Jvm.Cond.instanceMethod ({ cls := "SortingLoop$Loop", name := "steps", desc := "(II)I" } : Jvm.MethodName)) ∈ lw_all := lw_g (lw_at lw_m9 63 rfl) rfl
theorem q2121 : (Jvm.Cond.selects "SortingLoop$Loop" ({ cls := "SortingLoop$Loop", name := "steps", desc := "(II)I" } : Jvm.MethodName) ({ cls := "SortingLoop$Loop", name := "steps", desc := "(II)I" } : Jvm.MethodName)) ∈ lw_all := lw_g (lw_at lw_m9 64 rfl) rfl
theorem q2122 : (Jvm.Cond.code ({ cls := "SortingLoop$Loop", name := "steps", desc := "(II)I" } : Jvm.MethodName) prog_5_method_7_code (3 : Nat) (Option.some Jvm.ClassFile.FieldType.int)) ∈ lw_all := lw_g (lw_at lw_m9 65 rfl) rfl
theorem q2123 : (Jvm.Cond.methodLink "SortingLoop$Loop" (243 : Nat) ({ cls := "SortingLoop$Loop", name := "isAt", desc := "(LSortingLoop$Chute;LSortingLoop$Parcel;)Z" } : Jvm.MethodName)) ∈ lw_all := lw_g (lw_at lw_m9 66 rfl) rfl
theorem q2124 : (Jvm.Cond.privateMethod ({ cls := "SortingLoop$Loop", name := "isAt", desc := "(LSortingLoop$Chute;LSortingLoop$Parcel;)Z" } : Jvm.MethodName)) ∈ lw_tbl := lw_at lw_m9 67 rfl
theorem q2125 : (Jvm.Cond.instanceMethod ({ cls := "SortingLoop$Loop", name := "isAt", desc := "(LSortingLoop$Chute;LSortingLoop$Parcel;)Z" } : Jvm.MethodName)) ∈ lw_all := lw_g (lw_at lw_m9 68 rfl) rfl
theorem q2126 : (Jvm.Cond.code ({ cls := "SortingLoop$Loop", name := "isAt", desc := "(LSortingLoop$Chute;LSortingLoop$Parcel;)Z" } : Jvm.MethodName) prog_5_method_22_code (3 : Nat) (Option.some Jvm.ClassFile.FieldType.boolean)) ∈ lw_all := lw_g (lw_at lw_m9 69 rfl) rfl
theorem q2127 : (Jvm.Cond.methodLink "SortingLoop$Loop" (247 : Nat) ({ cls := "SortingLoop$Loop", name := "meets", desc := "(LSortingLoop$Chute;LSortingLoop$Parcel;)V" } : Jvm.MethodName)) ∈ lw_all := lw_g (lw_at lw_m9 70 rfl) rfl
theorem q2128 : (Jvm.Cond.privateMethod ({ cls := "SortingLoop$Loop", name := "meets", desc := "(LSortingLoop$Chute;LSortingLoop$Parcel;)V" } : Jvm.MethodName)) ∈ lw_tbl := lw_at lw_m9 71 rfl
theorem q2129 : (Jvm.Cond.instanceMethod ({ cls := "SortingLoop$Loop", name := "meets", desc := "(LSortingLoop$Chute;LSortingLoop$Parcel;)V" } : Jvm.MethodName)) ∈ lw_all := lw_g (lw_at lw_m9 72 rfl) rfl
theorem q2130 : (Jvm.Cond.code ({ cls := "SortingLoop$Loop", name := "meets", desc := "(LSortingLoop$Chute;LSortingLoop$Parcel;)V" } : Jvm.MethodName) prog_5_method_20_code (3 : Nat) (Option.none : Option Jvm.ClassFile.FieldType)) ∈ lw_all := lw_g (lw_at lw_m9 73 rfl) rfl
theorem q2131 : (Jvm.Cond.methodLink "SortingLoop$Loop" (217 : Nat) ({ cls := "SortingLoop$Chute", name := "canTake", desc := "()Z" } : Jvm.MethodName)) ∈ lw_all := lw_g (lw_at lw_m9 74 rfl) rfl
theorem q2137 : (Jvm.Cond.methodLink "SortingLoop$Loop" (223 : Nat) ({ cls := "SortingLoop$Loop", name := "fires", desc := "(LSortingLoop$Chute;LSortingLoop$Parcel;)V" } : Jvm.MethodName)) ∈ lw_all := lw_g (lw_at lw_m9 80 rfl) rfl
theorem q2138 : (Jvm.Cond.privateMethod ({ cls := "SortingLoop$Loop", name := "fires", desc := "(LSortingLoop$Chute;LSortingLoop$Parcel;)V" } : Jvm.MethodName)) ∈ lw_tbl := lw_at lw_m9 81 rfl
theorem q2139 : (Jvm.Cond.instanceMethod ({ cls := "SortingLoop$Loop", name := "fires", desc := "(LSortingLoop$Chute;LSortingLoop$Parcel;)V" } : Jvm.MethodName)) ∈ lw_all := lw_g (lw_at lw_m9 82 rfl) rfl
theorem q2140 : (Jvm.Cond.code ({ cls := "SortingLoop$Loop", name := "fires", desc := "(LSortingLoop$Chute;LSortingLoop$Parcel;)V" } : Jvm.MethodName) prog_5_method_21_code (3 : Nat) (Option.none : Option Jvm.ClassFile.FieldType)) ∈ lw_all := lw_g (lw_at lw_m9 83 rfl) rfl
theorem q2141 : (Jvm.Cond.methodLink "SortingLoop$Loop" (227 : Nat) ({ cls := "SortingLoop$Loop", name := "comes", desc := "(LSortingLoop$Chute;LSortingLoop$Parcel;)V" } : Jvm.MethodName)) ∈ lw_all := lw_g (lw_at lw_m9 84 rfl) rfl
theorem q2142 : (Jvm.Cond.privateMethod ({ cls := "SortingLoop$Loop", name := "comes", desc := "(LSortingLoop$Chute;LSortingLoop$Parcel;)V" } : Jvm.MethodName)) ∈ lw_tbl := lw_at lw_m9 85 rfl
theorem q2143 : (Jvm.Cond.instanceMethod ({ cls := "SortingLoop$Loop", name := "comes", desc := "(LSortingLoop$Chute;LSortingLoop$Parcel;)V" } : Jvm.MethodName)) ∈ lw_all := lw_g (lw_at lw_m9 86 rfl) rfl
theorem q2144 : (Jvm.Cond.code ({ cls := "SortingLoop$Loop", name := "comes", desc := "(LSortingLoop$Chute;LSortingLoop$Parcel;)V" } : Jvm.MethodName) prog_5_method_19_code (3 : Nat) (Option.none : Option Jvm.ClassFile.FieldType)) ∈ lw_all := lw_g (lw_at lw_m9 87 rfl) rfl
theorem q2210 : (Jvm.Cond.selects "SortingLoop$Loop" ({ cls := "java/lang/Object", name := "equals", desc := "(Ljava/lang/Object;)Z" } : Jvm.MethodName) ({ cls := "java/lang/Object", name := "equals", desc := "(Ljava/lang/Object;)Z" } : Jvm.MethodName)) ∈ lw_all := lw_g (lw_at lw_m9 153 rfl) rfl
theorem q3357 : (Jvm.Cond.castable "SortingLoop$Loop" "java/lang/Object") ∈ lw_tbl := lw_at lw_m14 100 rfl
theorem in_X2 : ∀ w ∈ wsX20, w ∈ lw_all := lw_in wsX20 [709, 711, 713, 715, 717, 719, 721, 723, 725] (by decide +kernel) (by decide +kernel)

/-! SortingLoop$Places -/
set_option maxRecDepth 100000
def RX3 : String := "SortingLoop$Places"
def TX3 : u_T := fun k => match k with
  | _ => ("SortingLoop$Places", "all", "Ljava/util/List;", true)
def tyX3 : Nat → FieldType := fun k => match k with
  | _ => .object "java/util/List"
abbrev wsX30 : List Cond := u_ws RX3 TX3 1
theorem nmX3 : ∀ a, a < 1 → ∀ b, b < 1 → a ≠ b → (TX3 a).2.1 ≠ (TX3 b).2.1 := by decide +kernel
theorem tyX3_ok : ∀ k, k < 1 → parseFieldDescriptor (TX3 k).2.2.1 = some (tyX3 k) := by decide +kernel
abbrev cX3_init : ByteArray := prog_11_method_1_code
def yX3_init : MethodName := ⟨RX3, "<init>", "(I)V"⟩
def dkwX3_init_1 : List UInt8 := [180, 0, 10, 1, 185, 0, 16, 2, 0, 87, 132, 2, 1, 167, 255, 237, 177]
abbrev dktX3_init_1 : List UInt8 := dkwX3_init_1 ++ []
def dkwX3_init_0 : List UInt8 := [42, 183, 0, 1, 42, 187, 0, 7, 89, 183, 0, 9, 181, 0, 10, 3, 61, 28, 27, 162, 0, 20, 42]
abbrev dktX3_init_0 : List UInt8 := dkwX3_init_0 ++ dktX3_init_1
theorem dksX3_init_0 : cX3_init.data.toList.drop 0 = dktX3_init_0 := by decide +kernel
theorem dksX3_init_1 : cX3_init.data.toList.drop 23 = dktX3_init_1 := dk_seg dksX3_init_0 23 rfl rfl
theorem dX3_init_0 : decode cX3_init 0 = .ok (.aload_n 0, 1) := dk_42 (dk_at dksX3_init_0 0 rfl rfl)
theorem dX3_init_1 : decode cX3_init 1 = .ok (.invokespecial 1, 3) := dk_183 0 1 (dk_at dksX3_init_0 1 rfl rfl)
theorem dX3_init_4 : decode cX3_init 4 = .ok (.aload_n 0, 1) := dk_42 (dk_at dksX3_init_0 4 rfl rfl)
theorem dX3_init_5 : decode cX3_init 5 = .ok (.new 7, 3) := dk_187 0 7 (dk_at dksX3_init_0 5 rfl rfl)
theorem dX3_init_8 : decode cX3_init 8 = .ok (.dup, 1) := dk_89 (dk_at dksX3_init_0 8 rfl rfl)
theorem dX3_init_9 : decode cX3_init 9 = .ok (.invokespecial 9, 3) := dk_183 0 9 (dk_at dksX3_init_0 9 rfl rfl)
theorem dX3_init_12 : decode cX3_init 12 = .ok (.putfield 10, 3) := dk_181 0 10 (dk_at dksX3_init_0 12 rfl rfl)
theorem dX3_init_15 : decode cX3_init 15 = .ok (.iconst 0, 1) := dk_3 (dk_at dksX3_init_0 15 rfl rfl)
theorem dX3_init_16 : decode cX3_init 16 = .ok (.istore_n 2, 1) := dk_61 (dk_at dksX3_init_0 16 rfl rfl)
theorem dX3_init_17 : decode cX3_init 17 = .ok (.iload_n 2, 1) := dk_28 (dk_at dksX3_init_0 17 rfl rfl)
theorem dX3_init_18 : decode cX3_init 18 = .ok (.iload_n 1, 1) := dk_27 (dk_at dksX3_init_0 18 rfl rfl)
theorem dX3_init_19 : decode cX3_init 19 = .ok (.if_icmp .ge 20, 3) := dk_162 0 20 (dk_at dksX3_init_0 19 rfl rfl)
theorem dX3_init_22 : decode cX3_init 22 = .ok (.aload_n 0, 1) := dk_42 (dk_at dksX3_init_0 22 rfl rfl)
theorem dX3_init_23 : decode cX3_init 23 = .ok (.getfield 10, 3) := dk_180 0 10 (dk_at dksX3_init_1 0 rfl rfl)
theorem dX3_init_26 : decode cX3_init 26 = .ok (.aconst_null, 1) := dk_1 (dk_at dksX3_init_1 3 rfl rfl)
theorem dX3_init_27 : decode cX3_init 27 = .ok (.invokeinterface 16 2, 5) := by decide +kernel
theorem dX3_init_32 : decode cX3_init 32 = .ok (.pop, 1) := dk_87 (dk_at dksX3_init_1 9 rfl rfl)
theorem dX3_init_33 : decode cX3_init 33 = .ok (.iinc 2 1, 3) := dk_132 2 1 (dk_at dksX3_init_1 10 rfl rfl)
theorem dX3_init_36 : decode cX3_init 36 = .ok (.goto (-19), 3) := dk_167 255 237 (dk_at dksX3_init_1 13 rfl rfl)
theorem dX3_init_39 : decode cX3_init 39 = .ok (.return_, 1) := dk_177 (dk_at dksX3_init_1 16 rfl rfl)
abbrev cX3_clears : ByteArray := prog_11_method_6_code
def yX3_clears : MethodName := ⟨RX3, "clears", "()V"⟩
def dkwX3_clears_1 : List UInt8 := [167, 255, 234, 177]
abbrev dktX3_clears_1 : List UInt8 := dkwX3_clears_1 ++ []
def dkwX3_clears_0 : List UInt8 := [3, 60, 27, 42, 180, 0, 10, 185, 0, 28, 1, 0, 162, 0, 15, 42, 27, 1, 182, 0, 36, 132, 1, 1]
abbrev dktX3_clears_0 : List UInt8 := dkwX3_clears_0 ++ dktX3_clears_1
theorem dksX3_clears_0 : cX3_clears.data.toList.drop 0 = dktX3_clears_0 := by decide +kernel
theorem dksX3_clears_1 : cX3_clears.data.toList.drop 24 = dktX3_clears_1 := dk_seg dksX3_clears_0 24 rfl rfl
theorem dX3_clears_0 : decode cX3_clears 0 = .ok (.iconst 0, 1) := dk_3 (dk_at dksX3_clears_0 0 rfl rfl)
theorem dX3_clears_1 : decode cX3_clears 1 = .ok (.istore_n 1, 1) := dk_60 (dk_at dksX3_clears_0 1 rfl rfl)
theorem dX3_clears_2 : decode cX3_clears 2 = .ok (.iload_n 1, 1) := dk_27 (dk_at dksX3_clears_0 2 rfl rfl)
theorem dX3_clears_3 : decode cX3_clears 3 = .ok (.aload_n 0, 1) := dk_42 (dk_at dksX3_clears_0 3 rfl rfl)
theorem dX3_clears_4 : decode cX3_clears 4 = .ok (.getfield 10, 3) := dk_180 0 10 (dk_at dksX3_clears_0 4 rfl rfl)
theorem dX3_clears_7 : decode cX3_clears 7 = .ok (.invokeinterface 28 1, 5) := by decide +kernel
theorem dX3_clears_12 : decode cX3_clears 12 = .ok (.if_icmp .ge 15, 3) := dk_162 0 15 (dk_at dksX3_clears_0 12 rfl rfl)
theorem dX3_clears_15 : decode cX3_clears 15 = .ok (.aload_n 0, 1) := dk_42 (dk_at dksX3_clears_0 15 rfl rfl)
theorem dX3_clears_16 : decode cX3_clears 16 = .ok (.iload_n 1, 1) := dk_27 (dk_at dksX3_clears_0 16 rfl rfl)
theorem dX3_clears_17 : decode cX3_clears 17 = .ok (.aconst_null, 1) := dk_1 (dk_at dksX3_clears_0 17 rfl rfl)
theorem dX3_clears_18 : decode cX3_clears 18 = .ok (.invokevirtual 36, 3) := dk_182 0 36 (dk_at dksX3_clears_0 18 rfl rfl)
theorem dX3_clears_21 : decode cX3_clears 21 = .ok (.iinc 1 1, 3) := dk_132 1 1 (dk_at dksX3_clears_0 21 rfl rfl)
theorem dX3_clears_24 : decode cX3_clears 24 = .ok (.goto (-22), 3) := dk_167 255 234 (dk_at dksX3_clears_1 0 rfl rfl)
theorem dX3_clears_27 : decode cX3_clears 27 = .ok (.return_, 1) := dk_177 (dk_at dksX3_clears_1 3 rfl rfl)
abbrev cX3_lays : ByteArray := prog_11_method_4_code
def yX3_lays : MethodName := ⟨RX3, "lays", "(ILSortingLoop$Numbered;)V"⟩
def dkwX3_lays_0 : List UInt8 := [42, 180, 0, 10, 27, 44, 185, 0, 32, 3, 0, 192, 0, 26, 78, 177]
abbrev dktX3_lays_0 : List UInt8 := dkwX3_lays_0 ++ []
theorem dksX3_lays_0 : cX3_lays.data.toList.drop 0 = dktX3_lays_0 := by decide +kernel
theorem dX3_lays_0 : decode cX3_lays 0 = .ok (.aload_n 0, 1) := dk_42 (dk_at dksX3_lays_0 0 rfl rfl)
theorem dX3_lays_1 : decode cX3_lays 1 = .ok (.getfield 10, 3) := dk_180 0 10 (dk_at dksX3_lays_0 1 rfl rfl)
theorem dX3_lays_4 : decode cX3_lays 4 = .ok (.iload_n 1, 1) := dk_27 (dk_at dksX3_lays_0 4 rfl rfl)
theorem dX3_lays_5 : decode cX3_lays 5 = .ok (.aload_n 2, 1) := dk_44 (dk_at dksX3_lays_0 5 rfl rfl)
theorem dX3_lays_6 : decode cX3_lays 6 = .ok (.invokeinterface 32 3, 5) := by decide +kernel
theorem dX3_lays_11 : decode cX3_lays 11 = .ok (.checkcast 26, 3) := dk_192 0 26 (dk_at dksX3_lays_0 11 rfl rfl)
theorem dX3_lays_14 : decode cX3_lays 14 = .ok (.astore_n 3, 1) := dk_78 (dk_at dksX3_lays_0 14 rfl rfl)
theorem dX3_lays_15 : decode cX3_lays 15 = .ok (.return_, 1) := dk_177 (dk_at dksX3_lays_0 15 rfl rfl)
abbrev cX3_isFree : ByteArray := prog_11_method_5_code
def yX3_isFree : MethodName := ⟨RX3, "isFree", "(I)Z"⟩
def dkwX3_isFree_0 : List UInt8 := [42, 180, 0, 10, 27, 185, 0, 22, 2, 0, 199, 0, 7, 4, 167, 0, 4, 3, 172]
abbrev dktX3_isFree_0 : List UInt8 := dkwX3_isFree_0 ++ []
theorem dksX3_isFree_0 : cX3_isFree.data.toList.drop 0 = dktX3_isFree_0 := by decide +kernel
theorem dX3_isFree_0 : decode cX3_isFree 0 = .ok (.aload_n 0, 1) := dk_42 (dk_at dksX3_isFree_0 0 rfl rfl)
theorem dX3_isFree_1 : decode cX3_isFree 1 = .ok (.getfield 10, 3) := dk_180 0 10 (dk_at dksX3_isFree_0 1 rfl rfl)
theorem dX3_isFree_4 : decode cX3_isFree 4 = .ok (.iload_n 1, 1) := dk_27 (dk_at dksX3_isFree_0 4 rfl rfl)
theorem dX3_isFree_5 : decode cX3_isFree 5 = .ok (.invokeinterface 22 2, 5) := by decide +kernel
theorem dX3_isFree_10 : decode cX3_isFree 10 = .ok (.ifnonnull 7, 3) := dk_199 0 7 (dk_at dksX3_isFree_0 10 rfl rfl)
theorem dX3_isFree_13 : decode cX3_isFree 13 = .ok (.iconst 1, 1) := dk_4 (dk_at dksX3_isFree_0 13 rfl rfl)
theorem dX3_isFree_14 : decode cX3_isFree 14 = .ok (.goto 4, 3) := dk_167 0 4 (dk_at dksX3_isFree_0 14 rfl rfl)
theorem dX3_isFree_17 : decode cX3_isFree 17 = .ok (.iconst 0, 1) := dk_3 (dk_at dksX3_isFree_0 17 rfl rfl)
theorem dX3_isFree_18 : decode cX3_isFree 18 = .ok (.ireturn, 1) := dk_172 (dk_at dksX3_isFree_0 18 rfl rfl)
abbrev cX3_turns : ByteArray := prog_11_method_7_code
def yX3_turns : MethodName := ⟨RX3, "turns", "()V"⟩
def dkwX3_turns_1 : List UInt8 := [180, 0, 10, 185, 0, 28, 1, 0, 4, 100, 185, 0, 44, 2, 0, 192, 0, 26, 185, 0, 47, 3, 0, 177]
abbrev dktX3_turns_1 : List UInt8 := dkwX3_turns_1 ++ []
def dkwX3_turns_0 : List UInt8 := [42, 180, 0, 10, 185, 0, 40, 1, 0, 154, 0, 36, 42, 180, 0, 10, 3, 42, 180, 0, 10, 42]
abbrev dktX3_turns_0 : List UInt8 := dkwX3_turns_0 ++ dktX3_turns_1
theorem dksX3_turns_0 : cX3_turns.data.toList.drop 0 = dktX3_turns_0 := by decide +kernel
theorem dksX3_turns_1 : cX3_turns.data.toList.drop 22 = dktX3_turns_1 := dk_seg dksX3_turns_0 22 rfl rfl
theorem dX3_turns_0 : decode cX3_turns 0 = .ok (.aload_n 0, 1) := dk_42 (dk_at dksX3_turns_0 0 rfl rfl)
theorem dX3_turns_1 : decode cX3_turns 1 = .ok (.getfield 10, 3) := dk_180 0 10 (dk_at dksX3_turns_0 1 rfl rfl)
theorem dX3_turns_4 : decode cX3_turns 4 = .ok (.invokeinterface 40 1, 5) := by decide +kernel
theorem dX3_turns_9 : decode cX3_turns 9 = .ok (.ifCond .ne 36, 3) := dk_154 0 36 (dk_at dksX3_turns_0 9 rfl rfl)
theorem dX3_turns_12 : decode cX3_turns 12 = .ok (.aload_n 0, 1) := dk_42 (dk_at dksX3_turns_0 12 rfl rfl)
theorem dX3_turns_13 : decode cX3_turns 13 = .ok (.getfield 10, 3) := dk_180 0 10 (dk_at dksX3_turns_0 13 rfl rfl)
theorem dX3_turns_16 : decode cX3_turns 16 = .ok (.iconst 0, 1) := dk_3 (dk_at dksX3_turns_0 16 rfl rfl)
theorem dX3_turns_17 : decode cX3_turns 17 = .ok (.aload_n 0, 1) := dk_42 (dk_at dksX3_turns_0 17 rfl rfl)
theorem dX3_turns_18 : decode cX3_turns 18 = .ok (.getfield 10, 3) := dk_180 0 10 (dk_at dksX3_turns_0 18 rfl rfl)
theorem dX3_turns_21 : decode cX3_turns 21 = .ok (.aload_n 0, 1) := dk_42 (dk_at dksX3_turns_0 21 rfl rfl)
theorem dX3_turns_22 : decode cX3_turns 22 = .ok (.getfield 10, 3) := dk_180 0 10 (dk_at dksX3_turns_1 0 rfl rfl)
theorem dX3_turns_25 : decode cX3_turns 25 = .ok (.invokeinterface 28 1, 5) := by decide +kernel
theorem dX3_turns_30 : decode cX3_turns 30 = .ok (.iconst 1, 1) := dk_4 (dk_at dksX3_turns_1 8 rfl rfl)
theorem dX3_turns_31 : decode cX3_turns 31 = .ok (.isub, 1) := dk_100 (dk_at dksX3_turns_1 9 rfl rfl)
theorem dX3_turns_32 : decode cX3_turns 32 = .ok (.invokeinterface 44 2, 5) := by decide +kernel
theorem dX3_turns_37 : decode cX3_turns 37 = .ok (.checkcast 26, 3) := dk_192 0 26 (dk_at dksX3_turns_1 15 rfl rfl)
theorem dX3_turns_40 : decode cX3_turns 40 = .ok (.invokeinterface 47 3, 5) := by decide +kernel
theorem dX3_turns_45 : decode cX3_turns 45 = .ok (.return_, 1) := dk_177 (dk_at dksX3_turns_1 23 rfl rfl)
abbrev cX3_at : ByteArray := prog_11_method_2_code
def yX3_at : MethodName := ⟨RX3, "at", "(I)LSortingLoop$Numbered;"⟩
def dkwX3_at_0 : List UInt8 := [42, 180, 0, 10, 27, 185, 0, 22, 2, 0, 192, 0, 26, 176]
abbrev dktX3_at_0 : List UInt8 := dkwX3_at_0 ++ []
theorem dksX3_at_0 : cX3_at.data.toList.drop 0 = dktX3_at_0 := by decide +kernel
theorem dX3_at_0 : decode cX3_at 0 = .ok (.aload_n 0, 1) := dk_42 (dk_at dksX3_at_0 0 rfl rfl)
theorem dX3_at_1 : decode cX3_at 1 = .ok (.getfield 10, 3) := dk_180 0 10 (dk_at dksX3_at_0 1 rfl rfl)
theorem dX3_at_4 : decode cX3_at 4 = .ok (.iload_n 1, 1) := dk_27 (dk_at dksX3_at_0 4 rfl rfl)
theorem dX3_at_5 : decode cX3_at 5 = .ok (.invokeinterface 22 2, 5) := by decide +kernel
theorem dX3_at_10 : decode cX3_at 10 = .ok (.checkcast 26, 3) := dk_192 0 26 (dk_at dksX3_at_0 10 rfl rfl)
theorem dX3_at_13 : decode cX3_at 13 = .ok (.areturn, 1) := dk_176 (dk_at dksX3_at_0 13 rfl rfl)
theorem q159 : (Jvm.Cond.initialized "SortingLoop$Places") ∈ lw_all := lw_g (lw_at lw_m1 22 rfl) rfl
theorem q566 : (Jvm.Cond.instantiable "SortingLoop$Places" (1 : Nat)) ∈ lw_all := lw_g (lw_at lw_m2 189 rfl) rfl
theorem q568 : (Jvm.Cond.instanceMethod ({ cls := "SortingLoop$Places", name := "<init>", desc := "(I)V" } : Jvm.MethodName)) ∈ lw_all := lw_g (lw_at lw_m2 191 rfl) rfl
theorem q569 : (Jvm.Cond.code ({ cls := "SortingLoop$Places", name := "<init>", desc := "(I)V" } : Jvm.MethodName) prog_11_method_1_code (3 : Nat) (Option.none : Option Jvm.ClassFile.FieldType)) ∈ lw_all := lw_g (lw_at lw_m2 192 rfl) rfl
theorem q570 : (Jvm.Cond.methodLink "SortingLoop$Places" (1 : Nat) ({ cls := "java/lang/Object", name := "<init>", desc := "()V" } : Jvm.MethodName)) ∈ lw_all := lw_g (lw_at lw_m2 193 rfl) rfl
theorem q571 : (Jvm.Cond.classLink "SortingLoop$Places" (7 : Nat) "java/util/ArrayList") ∈ lw_all := lw_g (lw_at lw_m2 194 rfl) rfl
theorem q572 : (Jvm.Cond.methodLink "SortingLoop$Places" (9 : Nat) ({ cls := "java/util/ArrayList", name := "<init>", desc := "()V" } : Jvm.MethodName)) ∈ lw_all := lw_g (lw_at lw_m2 195 rfl) rfl
theorem q577 : (Jvm.Cond.interfaceEntry "SortingLoop$Places" (16 : Nat)) ∈ lw_tbl := lw_at lw_m2 200 rfl
theorem q578 : (Jvm.Cond.methodLink "SortingLoop$Places" (16 : Nat) ({ cls := "java/util/List", name := "add", desc := "(Ljava/lang/Object;)Z" } : Jvm.MethodName)) ∈ lw_all := lw_g (lw_at lw_m2 201 rfl) rfl
theorem q613 : (Jvm.Cond.selects "SortingLoop$Places" ({ cls := "java/lang/Object", name := "getClass", desc := "()Ljava/lang/Class;" } : Jvm.MethodName) ({ cls := "java/lang/Object", name := "getClass", desc := "()Ljava/lang/Class;" } : Jvm.MethodName)) ∈ lw_all := lw_g (lw_at lw_m2 236 rfl) rfl
theorem q680 : (Jvm.Cond.fieldLink "SortingLoop$Places" (10 : Nat) "SortingLoop$Places" "all" "Ljava/util/List;") ∈ lw_all := lw_g (lw_at lw_m3 63 rfl) rfl
theorem q681 : (Jvm.Cond.laysFinal "SortingLoop$Places" "SortingLoop$Places" "all" "Ljava/util/List;") ∈ lw_all := lw_g (lw_at lw_m3 64 rfl) rfl
theorem q682 : (Jvm.Cond.soleField "SortingLoop$Places" "all") ∈ lw_all := lw_g (lw_at lw_m3 65 rfl) rfl
theorem q683 : (Jvm.Cond.superclass "SortingLoop$Places" "java/lang/Object") ∈ lw_all := lw_g (lw_at lw_m3 66 rfl) rfl
theorem q1028 : (Jvm.Cond.instanceMethod ({ cls := "SortingLoop$Places", name := "clears", desc := "()V" } : Jvm.MethodName)) ∈ lw_all := lw_g (lw_at lw_m4 171 rfl) rfl
theorem q1029 : (Jvm.Cond.selects "SortingLoop$Places" ({ cls := "SortingLoop$Places", name := "clears", desc := "()V" } : Jvm.MethodName) ({ cls := "SortingLoop$Places", name := "clears", desc := "()V" } : Jvm.MethodName)) ∈ lw_all := lw_g (lw_at lw_m4 172 rfl) rfl
theorem q1030 : (Jvm.Cond.code ({ cls := "SortingLoop$Places", name := "clears", desc := "()V" } : Jvm.MethodName) prog_11_method_6_code (2 : Nat) (Option.none : Option Jvm.ClassFile.FieldType)) ∈ lw_all := lw_g (lw_at lw_m4 173 rfl) rfl
theorem q1031 : (Jvm.Cond.interfaceEntry "SortingLoop$Places" (28 : Nat)) ∈ lw_tbl := lw_at lw_m4 174 rfl
theorem q1032 : (Jvm.Cond.methodLink "SortingLoop$Places" (28 : Nat) ({ cls := "java/util/List", name := "size", desc := "()I" } : Jvm.MethodName)) ∈ lw_all := lw_g (lw_at lw_m4 175 rfl) rfl
theorem q1033 : (Jvm.Cond.methodLink "SortingLoop$Places" (36 : Nat) ({ cls := "SortingLoop$Places", name := "lays", desc := "(ILSortingLoop$Numbered;)V" } : Jvm.MethodName)) ∈ lw_all := lw_g (lw_at lw_m4 176 rfl) rfl
theorem q1034 : (Jvm.Cond.instanceMethod ({ cls := "SortingLoop$Places", name := "lays", desc := "(ILSortingLoop$Numbered;)V" } : Jvm.MethodName)) ∈ lw_all := lw_g (lw_at lw_m4 177 rfl) rfl
theorem q1035 : (Jvm.Cond.selects "SortingLoop$Places" ({ cls := "SortingLoop$Places", name := "lays", desc := "(ILSortingLoop$Numbered;)V" } : Jvm.MethodName) ({ cls := "SortingLoop$Places", name := "lays", desc := "(ILSortingLoop$Numbered;)V" } : Jvm.MethodName)) ∈ lw_all := lw_g (lw_at lw_m4 178 rfl) rfl
theorem q1036 : (Jvm.Cond.code ({ cls := "SortingLoop$Places", name := "lays", desc := "(ILSortingLoop$Numbered;)V" } : Jvm.MethodName) prog_11_method_4_code (4 : Nat) (Option.none : Option Jvm.ClassFile.FieldType)) ∈ lw_all := lw_g (lw_at lw_m4 179 rfl) rfl
theorem q1037 : (Jvm.Cond.interfaceEntry "SortingLoop$Places" (32 : Nat)) ∈ lw_tbl := lw_at lw_m4 180 rfl
theorem q1038 : (Jvm.Cond.methodLink "SortingLoop$Places" (32 : Nat) ({ cls := "java/util/List", name := "set", desc := "(ILjava/lang/Object;)Ljava/lang/Object;" } : Jvm.MethodName)) ∈ lw_all := lw_g (lw_at lw_m4 181 rfl) rfl
theorem q1039 : (Jvm.Cond.classLink "SortingLoop$Places" (26 : Nat) "SortingLoop$Numbered") ∈ lw_all := lw_g (lw_at lw_m4 182 rfl) rfl
theorem q2000 : (Jvm.Cond.instanceMethod ({ cls := "SortingLoop$Places", name := "isFree", desc := "(I)Z" } : Jvm.MethodName)) ∈ lw_all := lw_g (lw_at lw_m8 183 rfl) rfl
theorem q2001 : (Jvm.Cond.selects "SortingLoop$Places" ({ cls := "SortingLoop$Places", name := "isFree", desc := "(I)Z" } : Jvm.MethodName) ({ cls := "SortingLoop$Places", name := "isFree", desc := "(I)Z" } : Jvm.MethodName)) ∈ lw_all := lw_g (lw_at lw_m8 184 rfl) rfl
theorem q2002 : (Jvm.Cond.code ({ cls := "SortingLoop$Places", name := "isFree", desc := "(I)Z" } : Jvm.MethodName) prog_11_method_5_code (2 : Nat) (Option.some Jvm.ClassFile.FieldType.boolean)) ∈ lw_all := lw_g (lw_at lw_m8 185 rfl) rfl
theorem q2003 : (Jvm.Cond.interfaceEntry "SortingLoop$Places" (22 : Nat)) ∈ lw_tbl := lw_at lw_m8 186 rfl
theorem q2004 : (Jvm.Cond.methodLink "SortingLoop$Places" (22 : Nat) ({ cls := "java/util/List", name := "get", desc := "(I)Ljava/lang/Object;" } : Jvm.MethodName)) ∈ lw_all := lw_g (lw_at lw_m8 187 rfl) rfl
theorem q2070 : (Jvm.Cond.instanceMethod ({ cls := "SortingLoop$Places", name := "turns", desc := "()V" } : Jvm.MethodName)) ∈ lw_all := lw_g (lw_at lw_m9 13 rfl) rfl
theorem q2071 : (Jvm.Cond.selects "SortingLoop$Places" ({ cls := "SortingLoop$Places", name := "turns", desc := "()V" } : Jvm.MethodName) ({ cls := "SortingLoop$Places", name := "turns", desc := "()V" } : Jvm.MethodName)) ∈ lw_all := lw_g (lw_at lw_m9 14 rfl) rfl
theorem q2072 : (Jvm.Cond.code ({ cls := "SortingLoop$Places", name := "turns", desc := "()V" } : Jvm.MethodName) prog_11_method_7_code (1 : Nat) (Option.none : Option Jvm.ClassFile.FieldType)) ∈ lw_all := lw_g (lw_at lw_m9 15 rfl) rfl
theorem q2073 : (Jvm.Cond.interfaceEntry "SortingLoop$Places" (40 : Nat)) ∈ lw_tbl := lw_at lw_m9 16 rfl
theorem q2074 : (Jvm.Cond.methodLink "SortingLoop$Places" (40 : Nat) ({ cls := "java/util/List", name := "isEmpty", desc := "()Z" } : Jvm.MethodName)) ∈ lw_all := lw_g (lw_at lw_m9 17 rfl) rfl
theorem q2075 : (Jvm.Cond.interfaceEntry "SortingLoop$Places" (44 : Nat)) ∈ lw_tbl := lw_at lw_m9 18 rfl
theorem q2076 : (Jvm.Cond.methodLink "SortingLoop$Places" (44 : Nat) ({ cls := "java/util/List", name := "remove", desc := "(I)Ljava/lang/Object;" } : Jvm.MethodName)) ∈ lw_all := lw_g (lw_at lw_m9 19 rfl) rfl
theorem q2077 : (Jvm.Cond.interfaceEntry "SortingLoop$Places" (47 : Nat)) ∈ lw_tbl := lw_at lw_m9 20 rfl
theorem q2078 : (Jvm.Cond.methodLink "SortingLoop$Places" (47 : Nat) ({ cls := "java/util/List", name := "add", desc := "(ILjava/lang/Object;)V" } : Jvm.MethodName)) ∈ lw_all := lw_g (lw_at lw_m9 21 rfl) rfl
theorem q2096 : (Jvm.Cond.instanceMethod ({ cls := "SortingLoop$Places", name := "at", desc := "(I)LSortingLoop$Numbered;" } : Jvm.MethodName)) ∈ lw_all := lw_g (lw_at lw_m9 39 rfl) rfl
theorem q2097 : (Jvm.Cond.selects "SortingLoop$Places" ({ cls := "SortingLoop$Places", name := "at", desc := "(I)LSortingLoop$Numbered;" } : Jvm.MethodName) ({ cls := "SortingLoop$Places", name := "at", desc := "(I)LSortingLoop$Numbered;" } : Jvm.MethodName)) ∈ lw_all := lw_g (lw_at lw_m9 40 rfl) rfl
theorem q2098 : (Jvm.Cond.code ({ cls := "SortingLoop$Places", name := "at", desc := "(I)LSortingLoop$Numbered;" } : Jvm.MethodName) prog_11_method_2_code (2 : Nat) (Option.some (Jvm.ClassFile.FieldType.object "SortingLoop$Numbered"))) ∈ lw_all := lw_g (lw_at lw_m9 41 rfl) rfl
theorem q2214 : (Jvm.Cond.selects "SortingLoop$Places" ({ cls := "java/lang/Object", name := "equals", desc := "(Ljava/lang/Object;)Z" } : Jvm.MethodName) ({ cls := "java/lang/Object", name := "equals", desc := "(Ljava/lang/Object;)Z" } : Jvm.MethodName)) ∈ lw_all := lw_g (lw_at lw_m9 157 rfl) rfl
theorem q3362 : (Jvm.Cond.castable "SortingLoop$Places" "java/lang/Object") ∈ lw_tbl := lw_at lw_m14 105 rfl
theorem in_X3 : ∀ w ∈ wsX30, w ∈ lw_all := lw_in wsX30 [681] (by decide +kernel) (by decide +kernel)

/-! SortingLoop$Chute -/
set_option maxRecDepth 100000
def RX4 : String := "SortingLoop$Chute"
def TX4 : u_T := fun k => match k with
  | 0 => ("SortingLoop$Chute", "number", "I", true)
  | 1 => ("SortingLoop$Chute", "cell", "I", true)
  | 2 => ("SortingLoop$Chute", "capacity", "I", true)
  | 3 => ("SortingLoop$Chute", "reset", "I", true)
  | 4 => ("SortingLoop$Chute", "held", "Ljava/util/List;", true)
  | 5 => ("SortingLoop$Chute", "window", "I", false)
  | 6 => ("SortingLoop$Chute", "rest", "I", false)
  | 7 => ("SortingLoop$Chute", "got", "I", false)
  | _ => ("SortingLoop$Chute", "open", "Z", false)
def tyX4 : Nat → FieldType := fun k => match k with
  | 0 => .int
  | 1 => .int
  | 2 => .int
  | 3 => .int
  | 4 => .object "java/util/List"
  | 5 => .int
  | 6 => .int
  | 7 => .int
  | _ => .boolean
abbrev wsX40 : List Cond := u_ws RX4 TX4 9
theorem nmX4 : ∀ a, a < 9 → ∀ b, b < 9 → a ≠ b → (TX4 a).2.1 ≠ (TX4 b).2.1 := by decide +kernel
theorem tyX4_ok : ∀ k, k < 9 → parseFieldDescriptor (TX4 k).2.2.1 = some (tyX4 k) := by decide +kernel
abbrev cX4_init : ByteArray := prog_2_method_1_code
def yX4_init : MethodName := ⟨RX4, "<init>", "(IIIII)V"⟩
def dkwX4_init_2 : List UInt8 := [181, 0, 33, 177]
abbrev dktX4_init_2 : List UInt8 := dkwX4_init_2 ++ []
def dkwX4_init_1 : List UInt8 := [181, 0, 20, 42, 28, 181, 0, 24, 42, 29, 181, 0, 27, 42, 21, 4, 181, 0, 30, 42, 21, 5]
abbrev dktX4_init_1 : List UInt8 := dkwX4_init_1 ++ dktX4_init_2
def dkwX4_init_0 : List UInt8 := [42, 183, 0, 1, 42, 187, 0, 7, 89, 183, 0, 9, 181, 0, 10, 42, 4, 181, 0, 16, 42, 27]
abbrev dktX4_init_0 : List UInt8 := dkwX4_init_0 ++ dktX4_init_1
theorem dksX4_init_0 : cX4_init.data.toList.drop 0 = dktX4_init_0 := by decide +kernel
theorem dksX4_init_1 : cX4_init.data.toList.drop 22 = dktX4_init_1 := dk_seg dksX4_init_0 22 rfl rfl
theorem dksX4_init_2 : cX4_init.data.toList.drop 44 = dktX4_init_2 := dk_seg dksX4_init_1 22 rfl rfl
theorem dX4_init_0 : decode cX4_init 0 = .ok (.aload_n 0, 1) := dk_42 (dk_at dksX4_init_0 0 rfl rfl)
theorem dX4_init_1 : decode cX4_init 1 = .ok (.invokespecial 1, 3) := dk_183 0 1 (dk_at dksX4_init_0 1 rfl rfl)
theorem dX4_init_4 : decode cX4_init 4 = .ok (.aload_n 0, 1) := dk_42 (dk_at dksX4_init_0 4 rfl rfl)
theorem dX4_init_5 : decode cX4_init 5 = .ok (.new 7, 3) := dk_187 0 7 (dk_at dksX4_init_0 5 rfl rfl)
theorem dX4_init_8 : decode cX4_init 8 = .ok (.dup, 1) := dk_89 (dk_at dksX4_init_0 8 rfl rfl)
theorem dX4_init_9 : decode cX4_init 9 = .ok (.invokespecial 9, 3) := dk_183 0 9 (dk_at dksX4_init_0 9 rfl rfl)
theorem dX4_init_12 : decode cX4_init 12 = .ok (.putfield 10, 3) := dk_181 0 10 (dk_at dksX4_init_0 12 rfl rfl)
theorem dX4_init_15 : decode cX4_init 15 = .ok (.aload_n 0, 1) := dk_42 (dk_at dksX4_init_0 15 rfl rfl)
theorem dX4_init_16 : decode cX4_init 16 = .ok (.iconst 1, 1) := dk_4 (dk_at dksX4_init_0 16 rfl rfl)
theorem dX4_init_17 : decode cX4_init 17 = .ok (.putfield 16, 3) := dk_181 0 16 (dk_at dksX4_init_0 17 rfl rfl)
theorem dX4_init_20 : decode cX4_init 20 = .ok (.aload_n 0, 1) := dk_42 (dk_at dksX4_init_0 20 rfl rfl)
theorem dX4_init_21 : decode cX4_init 21 = .ok (.iload_n 1, 1) := dk_27 (dk_at dksX4_init_0 21 rfl rfl)
theorem dX4_init_22 : decode cX4_init 22 = .ok (.putfield 20, 3) := dk_181 0 20 (dk_at dksX4_init_1 0 rfl rfl)
theorem dX4_init_25 : decode cX4_init 25 = .ok (.aload_n 0, 1) := dk_42 (dk_at dksX4_init_1 3 rfl rfl)
theorem dX4_init_26 : decode cX4_init 26 = .ok (.iload_n 2, 1) := dk_28 (dk_at dksX4_init_1 4 rfl rfl)
theorem dX4_init_27 : decode cX4_init 27 = .ok (.putfield 24, 3) := dk_181 0 24 (dk_at dksX4_init_1 5 rfl rfl)
theorem dX4_init_30 : decode cX4_init 30 = .ok (.aload_n 0, 1) := dk_42 (dk_at dksX4_init_1 8 rfl rfl)
theorem dX4_init_31 : decode cX4_init 31 = .ok (.iload_n 3, 1) := dk_29 (dk_at dksX4_init_1 9 rfl rfl)
theorem dX4_init_32 : decode cX4_init 32 = .ok (.putfield 27, 3) := dk_181 0 27 (dk_at dksX4_init_1 10 rfl rfl)
theorem dX4_init_35 : decode cX4_init 35 = .ok (.aload_n 0, 1) := dk_42 (dk_at dksX4_init_1 13 rfl rfl)
theorem dX4_init_36 : decode cX4_init 36 = .ok (.iload 4, 2) := dk_21 4 (dk_at dksX4_init_1 14 rfl rfl)
theorem dX4_init_38 : decode cX4_init 38 = .ok (.putfield 30, 3) := dk_181 0 30 (dk_at dksX4_init_1 16 rfl rfl)
theorem dX4_init_41 : decode cX4_init 41 = .ok (.aload_n 0, 1) := dk_42 (dk_at dksX4_init_1 19 rfl rfl)
theorem dX4_init_42 : decode cX4_init 42 = .ok (.iload 5, 2) := dk_21 5 (dk_at dksX4_init_1 20 rfl rfl)
theorem dX4_init_44 : decode cX4_init 44 = .ok (.putfield 33, 3) := dk_181 0 33 (dk_at dksX4_init_2 0 rfl rfl)
theorem dX4_init_47 : decode cX4_init 47 = .ok (.return_, 1) := dk_177 (dk_at dksX4_init_2 3 rfl rfl)
abbrev cX4_init_2 : ByteArray := prog_2_method_2_code
def yX4_init_2 : MethodName := ⟨RX4, "<init>", "(LSortingLoop$Chute;)V"⟩
def dkwX4_init_2_1 : List UInt8 := [177]
abbrev dktX4_init_2_1 : List UInt8 := dkwX4_init_2_1 ++ []
def dkwX4_init_2_0 : List UInt8 := [42, 43, 180, 0, 20, 43, 180, 0, 24, 43, 180, 0, 27, 43, 180, 0, 30, 43, 180, 0, 33, 183, 0, 36]
abbrev dktX4_init_2_0 : List UInt8 := dkwX4_init_2_0 ++ dktX4_init_2_1
theorem dksX4_init_2_0 : cX4_init_2.data.toList.drop 0 = dktX4_init_2_0 := by decide +kernel
theorem dksX4_init_2_1 : cX4_init_2.data.toList.drop 24 = dktX4_init_2_1 := dk_seg dksX4_init_2_0 24 rfl rfl
theorem dX4_init_2_0 : decode cX4_init_2 0 = .ok (.aload_n 0, 1) := dk_42 (dk_at dksX4_init_2_0 0 rfl rfl)
theorem dX4_init_2_1 : decode cX4_init_2 1 = .ok (.aload_n 1, 1) := dk_43 (dk_at dksX4_init_2_0 1 rfl rfl)
theorem dX4_init_2_2 : decode cX4_init_2 2 = .ok (.getfield 20, 3) := dk_180 0 20 (dk_at dksX4_init_2_0 2 rfl rfl)
theorem dX4_init_2_5 : decode cX4_init_2 5 = .ok (.aload_n 1, 1) := dk_43 (dk_at dksX4_init_2_0 5 rfl rfl)
theorem dX4_init_2_6 : decode cX4_init_2 6 = .ok (.getfield 24, 3) := dk_180 0 24 (dk_at dksX4_init_2_0 6 rfl rfl)
theorem dX4_init_2_9 : decode cX4_init_2 9 = .ok (.aload_n 1, 1) := dk_43 (dk_at dksX4_init_2_0 9 rfl rfl)
theorem dX4_init_2_10 : decode cX4_init_2 10 = .ok (.getfield 27, 3) := dk_180 0 27 (dk_at dksX4_init_2_0 10 rfl rfl)
theorem dX4_init_2_13 : decode cX4_init_2 13 = .ok (.aload_n 1, 1) := dk_43 (dk_at dksX4_init_2_0 13 rfl rfl)
theorem dX4_init_2_14 : decode cX4_init_2 14 = .ok (.getfield 30, 3) := dk_180 0 30 (dk_at dksX4_init_2_0 14 rfl rfl)
theorem dX4_init_2_17 : decode cX4_init_2 17 = .ok (.aload_n 1, 1) := dk_43 (dk_at dksX4_init_2_0 17 rfl rfl)
theorem dX4_init_2_18 : decode cX4_init_2 18 = .ok (.getfield 33, 3) := dk_180 0 33 (dk_at dksX4_init_2_0 18 rfl rfl)
theorem dX4_init_2_21 : decode cX4_init_2 21 = .ok (.invokespecial 36, 3) := dk_183 0 36 (dk_at dksX4_init_2_0 21 rfl rfl)
theorem dX4_init_2_24 : decode cX4_init_2 24 = .ok (.return_, 1) := dk_177 (dk_at dksX4_init_2_1 0 rfl rfl)
abbrev cX4_canTake : ByteArray := prog_2_method_4_code
def yX4_canTake : MethodName := ⟨RX4, "canTake", "()Z"⟩
def dkwX4_canTake_1 : List UInt8 := [167, 0, 4, 3, 172]
abbrev dktX4_canTake_1 : List UInt8 := dkwX4_canTake_1 ++ []
def dkwX4_canTake_0 : List UInt8 := [42, 180, 0, 16, 153, 0, 23, 42, 180, 0, 10, 185, 0, 39, 1, 0, 42, 180, 0, 27, 162, 0, 7, 4]
abbrev dktX4_canTake_0 : List UInt8 := dkwX4_canTake_0 ++ dktX4_canTake_1
theorem dksX4_canTake_0 : cX4_canTake.data.toList.drop 0 = dktX4_canTake_0 := by decide +kernel
theorem dksX4_canTake_1 : cX4_canTake.data.toList.drop 24 = dktX4_canTake_1 := dk_seg dksX4_canTake_0 24 rfl rfl
theorem dX4_canTake_0 : decode cX4_canTake 0 = .ok (.aload_n 0, 1) := dk_42 (dk_at dksX4_canTake_0 0 rfl rfl)
theorem dX4_canTake_1 : decode cX4_canTake 1 = .ok (.getfield 16, 3) := dk_180 0 16 (dk_at dksX4_canTake_0 1 rfl rfl)
theorem dX4_canTake_4 : decode cX4_canTake 4 = .ok (.ifCond .eq 23, 3) := dk_153 0 23 (dk_at dksX4_canTake_0 4 rfl rfl)
theorem dX4_canTake_7 : decode cX4_canTake 7 = .ok (.aload_n 0, 1) := dk_42 (dk_at dksX4_canTake_0 7 rfl rfl)
theorem dX4_canTake_8 : decode cX4_canTake 8 = .ok (.getfield 10, 3) := dk_180 0 10 (dk_at dksX4_canTake_0 8 rfl rfl)
theorem dX4_canTake_11 : decode cX4_canTake 11 = .ok (.invokeinterface 39 1, 5) := by decide +kernel
theorem dX4_canTake_16 : decode cX4_canTake 16 = .ok (.aload_n 0, 1) := dk_42 (dk_at dksX4_canTake_0 16 rfl rfl)
theorem dX4_canTake_17 : decode cX4_canTake 17 = .ok (.getfield 27, 3) := dk_180 0 27 (dk_at dksX4_canTake_0 17 rfl rfl)
theorem dX4_canTake_20 : decode cX4_canTake 20 = .ok (.if_icmp .ge 7, 3) := dk_162 0 7 (dk_at dksX4_canTake_0 20 rfl rfl)
theorem dX4_canTake_23 : decode cX4_canTake 23 = .ok (.iconst 1, 1) := dk_4 (dk_at dksX4_canTake_0 23 rfl rfl)
theorem dX4_canTake_24 : decode cX4_canTake 24 = .ok (.goto 4, 3) := dk_167 0 4 (dk_at dksX4_canTake_1 0 rfl rfl)
theorem dX4_canTake_27 : decode cX4_canTake 27 = .ok (.iconst 0, 1) := dk_3 (dk_at dksX4_canTake_1 3 rfl rfl)
theorem dX4_canTake_28 : decode cX4_canTake 28 = .ok (.ireturn, 1) := dk_172 (dk_at dksX4_canTake_1 4 rfl rfl)
abbrev cX4_number : ByteArray := prog_2_method_3_code
def yX4_number : MethodName := ⟨RX4, "number", "()I"⟩
theorem dX4_number_0 : decode cX4_number 0 = .ok (.aload_n 0, 1) := by decide +kernel
theorem dX4_number_1 : decode cX4_number 1 = .ok (.getfield 20, 3) := by decide +kernel
theorem dX4_number_4 : decode cX4_number 4 = .ok (.ireturn, 1) := by decide +kernel
abbrev cX4_right : ByteArray := prog_2_method_5_code
def yX4_right : MethodName := ⟨RX4, "right", "()I"⟩
def dkwX4_right_2 : List UInt8 := [167, 0, 4, 3, 184, 0, 64, 96, 60, 167, 255, 215, 27, 172]
abbrev dktX4_right_2 : List UInt8 := dkwX4_right_2 ++ []
def dkwX4_right_1 : List UInt8 := [185, 0, 55, 1, 0, 192, 0, 59, 78, 27, 45, 180, 0, 61, 42, 180, 0, 20, 160, 0, 7, 4]
abbrev dktX4_right_1 : List UInt8 := dkwX4_right_1 ++ dktX4_right_2
def dkwX4_right_0 : List UInt8 := [3, 60, 42, 180, 0, 10, 185, 0, 45, 1, 0, 77, 44, 185, 0, 49, 1, 0, 153, 0, 38, 44]
abbrev dktX4_right_0 : List UInt8 := dkwX4_right_0 ++ dktX4_right_1
theorem dksX4_right_0 : cX4_right.data.toList.drop 0 = dktX4_right_0 := by decide +kernel
theorem dksX4_right_1 : cX4_right.data.toList.drop 22 = dktX4_right_1 := dk_seg dksX4_right_0 22 rfl rfl
theorem dksX4_right_2 : cX4_right.data.toList.drop 44 = dktX4_right_2 := dk_seg dksX4_right_1 22 rfl rfl
theorem dX4_right_0 : decode cX4_right 0 = .ok (.iconst 0, 1) := dk_3 (dk_at dksX4_right_0 0 rfl rfl)
theorem dX4_right_1 : decode cX4_right 1 = .ok (.istore_n 1, 1) := dk_60 (dk_at dksX4_right_0 1 rfl rfl)
theorem dX4_right_2 : decode cX4_right 2 = .ok (.aload_n 0, 1) := dk_42 (dk_at dksX4_right_0 2 rfl rfl)
theorem dX4_right_3 : decode cX4_right 3 = .ok (.getfield 10, 3) := dk_180 0 10 (dk_at dksX4_right_0 3 rfl rfl)
theorem dX4_right_6 : decode cX4_right 6 = .ok (.invokeinterface 45 1, 5) := by decide +kernel
theorem dX4_right_11 : decode cX4_right 11 = .ok (.astore_n 2, 1) := dk_77 (dk_at dksX4_right_0 11 rfl rfl)
theorem dX4_right_12 : decode cX4_right 12 = .ok (.aload_n 2, 1) := dk_44 (dk_at dksX4_right_0 12 rfl rfl)
theorem dX4_right_13 : decode cX4_right 13 = .ok (.invokeinterface 49 1, 5) := by decide +kernel
theorem dX4_right_18 : decode cX4_right 18 = .ok (.ifCond .eq 38, 3) := dk_153 0 38 (dk_at dksX4_right_0 18 rfl rfl)
theorem dX4_right_21 : decode cX4_right 21 = .ok (.aload_n 2, 1) := dk_44 (dk_at dksX4_right_0 21 rfl rfl)
theorem dX4_right_22 : decode cX4_right 22 = .ok (.invokeinterface 55 1, 5) := by decide +kernel
theorem dX4_right_27 : decode cX4_right 27 = .ok (.checkcast 59, 3) := dk_192 0 59 (dk_at dksX4_right_1 5 rfl rfl)
theorem dX4_right_30 : decode cX4_right 30 = .ok (.astore_n 3, 1) := dk_78 (dk_at dksX4_right_1 8 rfl rfl)
theorem dX4_right_31 : decode cX4_right 31 = .ok (.iload_n 1, 1) := dk_27 (dk_at dksX4_right_1 9 rfl rfl)
theorem dX4_right_32 : decode cX4_right 32 = .ok (.aload_n 3, 1) := dk_45 (dk_at dksX4_right_1 10 rfl rfl)
theorem dX4_right_33 : decode cX4_right 33 = .ok (.getfield 61, 3) := dk_180 0 61 (dk_at dksX4_right_1 11 rfl rfl)
theorem dX4_right_36 : decode cX4_right 36 = .ok (.aload_n 0, 1) := dk_42 (dk_at dksX4_right_1 14 rfl rfl)
theorem dX4_right_37 : decode cX4_right 37 = .ok (.getfield 20, 3) := dk_180 0 20 (dk_at dksX4_right_1 15 rfl rfl)
theorem dX4_right_40 : decode cX4_right 40 = .ok (.if_icmp .ne 7, 3) := dk_160 0 7 (dk_at dksX4_right_1 18 rfl rfl)
theorem dX4_right_43 : decode cX4_right 43 = .ok (.iconst 1, 1) := dk_4 (dk_at dksX4_right_1 21 rfl rfl)
theorem dX4_right_44 : decode cX4_right 44 = .ok (.goto 4, 3) := dk_167 0 4 (dk_at dksX4_right_2 0 rfl rfl)
theorem dX4_right_47 : decode cX4_right 47 = .ok (.iconst 0, 1) := dk_3 (dk_at dksX4_right_2 3 rfl rfl)
theorem dX4_right_48 : decode cX4_right 48 = .ok (.invokestatic 64, 3) := dk_184 0 64 (dk_at dksX4_right_2 4 rfl rfl)
theorem dX4_right_51 : decode cX4_right 51 = .ok (.iadd, 1) := dk_96 (dk_at dksX4_right_2 7 rfl rfl)
theorem dX4_right_52 : decode cX4_right 52 = .ok (.istore_n 1, 1) := dk_60 (dk_at dksX4_right_2 8 rfl rfl)
theorem dX4_right_53 : decode cX4_right 53 = .ok (.goto (-41), 3) := dk_167 255 215 (dk_at dksX4_right_2 9 rfl rfl)
theorem dX4_right_56 : decode cX4_right 56 = .ok (.iload_n 1, 1) := dk_27 (dk_at dksX4_right_2 12 rfl rfl)
theorem dX4_right_57 : decode cX4_right 57 = .ok (.ireturn, 1) := dk_172 (dk_at dksX4_right_2 13 rfl rfl)
theorem q161 : (Jvm.Cond.initialized "SortingLoop$Chute") ∈ lw_all := lw_g (lw_at lw_m1 24 rfl) rfl
theorem q607 : (Jvm.Cond.selects "SortingLoop$Chute" ({ cls := "java/lang/Object", name := "getClass", desc := "()Ljava/lang/Class;" } : Jvm.MethodName) ({ cls := "java/lang/Object", name := "getClass", desc := "()Ljava/lang/Class;" } : Jvm.MethodName)) ∈ lw_all := lw_g (lw_at lw_m2 230 rfl) rfl
theorem q729 : (Jvm.Cond.instantiable "SortingLoop$Chute" (9 : Nat)) ∈ lw_all := lw_g (lw_at lw_m3 112 rfl) rfl
theorem q731 : (Jvm.Cond.instanceMethod ({ cls := "SortingLoop$Chute", name := "<init>", desc := "(IIIII)V" } : Jvm.MethodName)) ∈ lw_all := lw_g (lw_at lw_m3 114 rfl) rfl
theorem q732 : (Jvm.Cond.code ({ cls := "SortingLoop$Chute", name := "<init>", desc := "(IIIII)V" } : Jvm.MethodName) prog_2_method_1_code (6 : Nat) (Option.none : Option Jvm.ClassFile.FieldType)) ∈ lw_all := lw_g (lw_at lw_m3 115 rfl) rfl
theorem q733 : (Jvm.Cond.methodLink "SortingLoop$Chute" (1 : Nat) ({ cls := "java/lang/Object", name := "<init>", desc := "()V" } : Jvm.MethodName)) ∈ lw_all := lw_g (lw_at lw_m3 116 rfl) rfl
theorem q734 : (Jvm.Cond.classLink "SortingLoop$Chute" (7 : Nat) "java/util/LinkedList") ∈ lw_all := lw_g (lw_at lw_m3 117 rfl) rfl
theorem q736 : (Jvm.Cond.methodLink "SortingLoop$Chute" (9 : Nat) ({ cls := "java/util/LinkedList", name := "<init>", desc := "()V" } : Jvm.MethodName)) ∈ lw_all := lw_g (lw_at lw_m3 119 rfl) rfl
theorem q755 : (Jvm.Cond.fieldLink "SortingLoop$Chute" (20 : Nat) "SortingLoop$Chute" "number" "I") ∈ lw_all := lw_g (lw_at lw_m3 138 rfl) rfl
theorem q757 : (Jvm.Cond.fieldLink "SortingLoop$Chute" (24 : Nat) "SortingLoop$Chute" "cell" "I") ∈ lw_all := lw_g (lw_at lw_m3 140 rfl) rfl
theorem q760 : (Jvm.Cond.fieldLink "SortingLoop$Chute" (27 : Nat) "SortingLoop$Chute" "capacity" "I") ∈ lw_all := lw_g (lw_at lw_m3 143 rfl) rfl
theorem q762 : (Jvm.Cond.fieldLink "SortingLoop$Chute" (33 : Nat) "SortingLoop$Chute" "reset" "I") ∈ lw_all := lw_g (lw_at lw_m3 145 rfl) rfl
theorem q765 : (Jvm.Cond.fieldLink "SortingLoop$Chute" (10 : Nat) "SortingLoop$Chute" "held" "Ljava/util/List;") ∈ lw_all := lw_g (lw_at lw_m3 148 rfl) rfl
theorem q768 : (Jvm.Cond.fieldLink "SortingLoop$Chute" (30 : Nat) "SortingLoop$Chute" "window" "I") ∈ lw_all := lw_g (lw_at lw_m3 151 rfl) rfl
theorem q775 : (Jvm.Cond.fieldLink "SortingLoop$Chute" (16 : Nat) "SortingLoop$Chute" "open" "Z") ∈ lw_all := lw_g (lw_at lw_m3 158 rfl) rfl
theorem q778 : (Jvm.Cond.laysFinal "SortingLoop$Chute" "SortingLoop$Chute" "number" "I") ∈ lw_all := lw_g (lw_at lw_m3 161 rfl) rfl
theorem q779 : (Jvm.Cond.soleField "SortingLoop$Chute" "number") ∈ lw_all := lw_g (lw_at lw_m3 162 rfl) rfl
theorem q780 : (Jvm.Cond.laysFinal "SortingLoop$Chute" "SortingLoop$Chute" "cell" "I") ∈ lw_all := lw_g (lw_at lw_m3 163 rfl) rfl
theorem q781 : (Jvm.Cond.soleField "SortingLoop$Chute" "cell") ∈ lw_all := lw_g (lw_at lw_m3 164 rfl) rfl
theorem q782 : (Jvm.Cond.laysFinal "SortingLoop$Chute" "SortingLoop$Chute" "capacity" "I") ∈ lw_all := lw_g (lw_at lw_m3 165 rfl) rfl
theorem q783 : (Jvm.Cond.soleField "SortingLoop$Chute" "capacity") ∈ lw_all := lw_g (lw_at lw_m3 166 rfl) rfl
theorem q784 : (Jvm.Cond.laysFinal "SortingLoop$Chute" "SortingLoop$Chute" "reset" "I") ∈ lw_all := lw_g (lw_at lw_m3 167 rfl) rfl
theorem q785 : (Jvm.Cond.soleField "SortingLoop$Chute" "reset") ∈ lw_all := lw_g (lw_at lw_m3 168 rfl) rfl
theorem q786 : (Jvm.Cond.laysFinal "SortingLoop$Chute" "SortingLoop$Chute" "held" "Ljava/util/List;") ∈ lw_all := lw_g (lw_at lw_m3 169 rfl) rfl
theorem q787 : (Jvm.Cond.soleField "SortingLoop$Chute" "held") ∈ lw_all := lw_g (lw_at lw_m3 170 rfl) rfl
theorem q788 : (Jvm.Cond.lays "SortingLoop$Chute" "SortingLoop$Chute" "window" "I") ∈ lw_all := lw_g (lw_at lw_m3 171 rfl) rfl
theorem q789 : (Jvm.Cond.soleField "SortingLoop$Chute" "window") ∈ lw_all := lw_g (lw_at lw_m3 172 rfl) rfl
theorem q790 : (Jvm.Cond.lays "SortingLoop$Chute" "SortingLoop$Chute" "rest" "I") ∈ lw_all := lw_g (lw_at lw_m3 173 rfl) rfl
theorem q791 : (Jvm.Cond.soleField "SortingLoop$Chute" "rest") ∈ lw_all := lw_g (lw_at lw_m3 174 rfl) rfl
theorem q792 : (Jvm.Cond.lays "SortingLoop$Chute" "SortingLoop$Chute" "got" "I") ∈ lw_all := lw_g (lw_at lw_m3 175 rfl) rfl
theorem q793 : (Jvm.Cond.soleField "SortingLoop$Chute" "got") ∈ lw_all := lw_g (lw_at lw_m3 176 rfl) rfl
theorem q794 : (Jvm.Cond.lays "SortingLoop$Chute" "SortingLoop$Chute" "open" "Z") ∈ lw_all := lw_g (lw_at lw_m3 177 rfl) rfl
theorem q795 : (Jvm.Cond.soleField "SortingLoop$Chute" "open") ∈ lw_all := lw_g (lw_at lw_m3 178 rfl) rfl
theorem q796 : (Jvm.Cond.superclass "SortingLoop$Chute" "java/lang/Object") ∈ lw_all := lw_g (lw_at lw_m3 179 rfl) rfl
theorem q910 : (Jvm.Cond.instanceMethod ({ cls := "SortingLoop$Chute", name := "<init>", desc := "(LSortingLoop$Chute;)V" } : Jvm.MethodName)) ∈ lw_all := lw_g (lw_at lw_m4 53 rfl) rfl
theorem q911 : (Jvm.Cond.code ({ cls := "SortingLoop$Chute", name := "<init>", desc := "(LSortingLoop$Chute;)V" } : Jvm.MethodName) prog_2_method_2_code (2 : Nat) (Option.none : Option Jvm.ClassFile.FieldType)) ∈ lw_all := lw_g (lw_at lw_m4 54 rfl) rfl
theorem q912 : (Jvm.Cond.methodLink "SortingLoop$Chute" (36 : Nat) ({ cls := "SortingLoop$Chute", name := "<init>", desc := "(IIIII)V" } : Jvm.MethodName)) ∈ lw_all := lw_g (lw_at lw_m4 55 rfl) rfl
theorem q962 : (Jvm.Cond.fieldLinkNest "SortingLoop$Chute" (61 : Nat) "SortingLoop$Parcel" "dest" "I" "SortingLoop") ∈ lw_tbl := lw_at lw_m4 105 rfl
theorem q2132 : (Jvm.Cond.instanceMethod ({ cls := "SortingLoop$Chute", name := "canTake", desc := "()Z" } : Jvm.MethodName)) ∈ lw_all := lw_g (lw_at lw_m9 75 rfl) rfl
theorem q2133 : (Jvm.Cond.selects "SortingLoop$Chute" ({ cls := "SortingLoop$Chute", name := "canTake", desc := "()Z" } : Jvm.MethodName) ({ cls := "SortingLoop$Chute", name := "canTake", desc := "()Z" } : Jvm.MethodName)) ∈ lw_all := lw_g (lw_at lw_m9 76 rfl) rfl
theorem q2134 : (Jvm.Cond.code ({ cls := "SortingLoop$Chute", name := "canTake", desc := "()Z" } : Jvm.MethodName) prog_2_method_4_code (1 : Nat) (Option.some Jvm.ClassFile.FieldType.boolean)) ∈ lw_all := lw_g (lw_at lw_m9 77 rfl) rfl
theorem q2135 : (Jvm.Cond.interfaceEntry "SortingLoop$Chute" (39 : Nat)) ∈ lw_tbl := lw_at lw_m9 78 rfl
theorem q2136 : (Jvm.Cond.methodLink "SortingLoop$Chute" (39 : Nat) ({ cls := "java/util/List", name := "size", desc := "()I" } : Jvm.MethodName)) ∈ lw_all := lw_g (lw_at lw_m9 79 rfl) rfl
theorem q2208 : (Jvm.Cond.selects "SortingLoop$Chute" ({ cls := "java/lang/Object", name := "equals", desc := "(Ljava/lang/Object;)Z" } : Jvm.MethodName) ({ cls := "java/lang/Object", name := "equals", desc := "(Ljava/lang/Object;)Z" } : Jvm.MethodName)) ∈ lw_all := lw_g (lw_at lw_m9 151 rfl) rfl
theorem q2253 : (Jvm.Cond.castable "SortingLoop$Chute" "SortingLoop$Numbered") ∈ lw_tbl := lw_at lw_m9 196 rfl
theorem q2254 : (Jvm.Cond.selects "SortingLoop$Chute" ({ cls := "SortingLoop$Numbered", name := "number", desc := "()I" } : Jvm.MethodName) ({ cls := "SortingLoop$Chute", name := "number", desc := "()I" } : Jvm.MethodName)) ∈ lw_all := lw_g (lw_at lw_m9 197 rfl) rfl
theorem q2255 : (Jvm.Cond.unhidden "SortingLoop$Chute" "number" "()I") ∈ lw_tbl := lw_at lw_m9 198 rfl
theorem q2256 : (Jvm.Cond.instanceMethod ({ cls := "SortingLoop$Chute", name := "number", desc := "()I" } : Jvm.MethodName)) ∈ lw_all := lw_g (lw_at lw_m9 199 rfl) rfl
theorem q2257 : (Jvm.Cond.publicMethod ({ cls := "SortingLoop$Chute", name := "number", desc := "()I" } : Jvm.MethodName)) ∈ lw_tbl := lw_at lw_m9 200 rfl
theorem q2258 : (Jvm.Cond.code ({ cls := "SortingLoop$Chute", name := "number", desc := "()I" } : Jvm.MethodName) prog_2_method_3_code (1 : Nat) (Option.some Jvm.ClassFile.FieldType.int)) ∈ lw_all := lw_g (lw_at lw_m9 201 rfl) rfl
theorem q2470 : (Jvm.Cond.instanceMethod ({ cls := "SortingLoop$Chute", name := "right", desc := "()I" } : Jvm.MethodName)) ∈ lw_all := lw_g (lw_at lw_m10 173 rfl) rfl
theorem q2471 : (Jvm.Cond.selects "SortingLoop$Chute" ({ cls := "SortingLoop$Chute", name := "right", desc := "()I" } : Jvm.MethodName) ({ cls := "SortingLoop$Chute", name := "right", desc := "()I" } : Jvm.MethodName)) ∈ lw_all := lw_g (lw_at lw_m10 174 rfl) rfl
theorem q2472 : (Jvm.Cond.code ({ cls := "SortingLoop$Chute", name := "right", desc := "()I" } : Jvm.MethodName) prog_2_method_5_code (4 : Nat) (Option.some Jvm.ClassFile.FieldType.int)) ∈ lw_all := lw_g (lw_at lw_m10 175 rfl) rfl
theorem q2473 : (Jvm.Cond.interfaceEntry "SortingLoop$Chute" (45 : Nat)) ∈ lw_tbl := lw_at lw_m10 176 rfl
theorem q2474 : (Jvm.Cond.methodLink "SortingLoop$Chute" (45 : Nat) ({ cls := "java/util/List", name := "iterator", desc := "()Ljava/util/Iterator;" } : Jvm.MethodName)) ∈ lw_all := lw_g (lw_at lw_m10 177 rfl) rfl
theorem q2475 : (Jvm.Cond.interfaceEntry "SortingLoop$Chute" (49 : Nat)) ∈ lw_tbl := lw_at lw_m10 178 rfl
theorem q2476 : (Jvm.Cond.methodLink "SortingLoop$Chute" (49 : Nat) ({ cls := "java/util/Iterator", name := "hasNext", desc := "()Z" } : Jvm.MethodName)) ∈ lw_all := lw_g (lw_at lw_m10 179 rfl) rfl
theorem q2477 : (Jvm.Cond.interfaceEntry "SortingLoop$Chute" (55 : Nat)) ∈ lw_tbl := lw_at lw_m10 180 rfl
theorem q2478 : (Jvm.Cond.methodLink "SortingLoop$Chute" (55 : Nat) ({ cls := "java/util/Iterator", name := "next", desc := "()Ljava/lang/Object;" } : Jvm.MethodName)) ∈ lw_all := lw_g (lw_at lw_m10 181 rfl) rfl
theorem q2479 : (Jvm.Cond.classLink "SortingLoop$Chute" (59 : Nat) "SortingLoop$Parcel") ∈ lw_all := lw_g (lw_at lw_m10 182 rfl) rfl
theorem q2480 : (Jvm.Cond.methodLinkNest "SortingLoop$Chute" (64 : Nat) ({ cls := "SortingLoop", name := "bit", desc := "(Z)I" } : Jvm.MethodName) "SortingLoop") ∈ lw_tbl := lw_at lw_m10 183 rfl
theorem q3363 : (Jvm.Cond.castable "SortingLoop$Chute" "java/lang/Object") ∈ lw_tbl := lw_at lw_m14 106 rfl
theorem in_X4 : ∀ w ∈ wsX40, w ∈ lw_all := lw_in wsX40 [778, 780, 782, 784, 786, 788, 790, 792, 794] (by decide +kernel) (by decide +kernel)

/-! SortingLoop$Parcel -/
set_option maxRecDepth 100000
def RX5 : String := "SortingLoop$Parcel"
def TX5 : u_T := fun k => match k with
  | 0 => ("SortingLoop$Parcel", "number", "I", true)
  | 1 => ("SortingLoop$Parcel", "dest", "I", true)
  | 2 => ("SortingLoop$Parcel", "torn", "I", false)
  | 3 => ("SortingLoop$Parcel", "laps", "I", false)
  | 4 => ("SortingLoop$Parcel", "what", "I", false)
  | 5 => ("SortingLoop$Parcel", "cell", "I", false)
  | 6 => ("SortingLoop$Parcel", "track", "I", false)
  | 7 => ("SortingLoop$Parcel", "chute", "I", false)
  | 8 => ("SortingLoop$Parcel", "left", "I", false)
  | _ => ("SortingLoop$Parcel", "slipped", "Z", false)
def tyX5 : Nat → FieldType := fun k => match k with
  | 0 => .int
  | 1 => .int
  | 2 => .int
  | 3 => .int
  | 4 => .int
  | 5 => .int
  | 6 => .int
  | 7 => .int
  | 8 => .int
  | _ => .boolean
abbrev wsX50 : List Cond := u_ws RX5 TX5 10
theorem nmX5 : ∀ a, a < 10 → ∀ b, b < 10 → a ≠ b → (TX5 a).2.1 ≠ (TX5 b).2.1 := by decide +kernel
theorem tyX5_ok : ∀ k, k < 10 → parseFieldDescriptor (TX5 k).2.2.1 = some (tyX5 k) := by decide +kernel
abbrev cX5_twin : ByteArray := prog_8_method_3_code
def yX5_twin : MethodName := ⟨RX5, "twin", "()LSortingLoop$Parcel;"⟩
def dkwX5_twin_1 : List UInt8 := [182, 0, 36, 176]
abbrev dktX5_twin_1 : List UInt8 := dkwX5_twin_1 ++ []
def dkwX5_twin_0 : List UInt8 := [187, 0, 10, 89, 42, 180, 0, 9, 42, 180, 0, 15, 42, 180, 0, 18, 42, 180, 0, 21, 183, 0, 33, 42]
abbrev dktX5_twin_0 : List UInt8 := dkwX5_twin_0 ++ dktX5_twin_1
theorem dksX5_twin_0 : cX5_twin.data.toList.drop 0 = dktX5_twin_0 := by decide +kernel
theorem dksX5_twin_1 : cX5_twin.data.toList.drop 24 = dktX5_twin_1 := dk_seg dksX5_twin_0 24 rfl rfl
theorem dX5_twin_0 : decode cX5_twin 0 = .ok (.new 10, 3) := dk_187 0 10 (dk_at dksX5_twin_0 0 rfl rfl)
theorem dX5_twin_3 : decode cX5_twin 3 = .ok (.dup, 1) := dk_89 (dk_at dksX5_twin_0 3 rfl rfl)
theorem dX5_twin_4 : decode cX5_twin 4 = .ok (.aload_n 0, 1) := dk_42 (dk_at dksX5_twin_0 4 rfl rfl)
theorem dX5_twin_5 : decode cX5_twin 5 = .ok (.getfield 9, 3) := dk_180 0 9 (dk_at dksX5_twin_0 5 rfl rfl)
theorem dX5_twin_8 : decode cX5_twin 8 = .ok (.aload_n 0, 1) := dk_42 (dk_at dksX5_twin_0 8 rfl rfl)
theorem dX5_twin_9 : decode cX5_twin 9 = .ok (.getfield 15, 3) := dk_180 0 15 (dk_at dksX5_twin_0 9 rfl rfl)
theorem dX5_twin_12 : decode cX5_twin 12 = .ok (.aload_n 0, 1) := dk_42 (dk_at dksX5_twin_0 12 rfl rfl)
theorem dX5_twin_13 : decode cX5_twin 13 = .ok (.getfield 18, 3) := dk_180 0 18 (dk_at dksX5_twin_0 13 rfl rfl)
theorem dX5_twin_16 : decode cX5_twin 16 = .ok (.aload_n 0, 1) := dk_42 (dk_at dksX5_twin_0 16 rfl rfl)
theorem dX5_twin_17 : decode cX5_twin 17 = .ok (.getfield 21, 3) := dk_180 0 21 (dk_at dksX5_twin_0 17 rfl rfl)
theorem dX5_twin_20 : decode cX5_twin 20 = .ok (.invokespecial 33, 3) := dk_183 0 33 (dk_at dksX5_twin_0 20 rfl rfl)
theorem dX5_twin_23 : decode cX5_twin 23 = .ok (.aload_n 0, 1) := dk_42 (dk_at dksX5_twin_0 23 rfl rfl)
theorem dX5_twin_24 : decode cX5_twin 24 = .ok (.invokevirtual 36, 3) := dk_182 0 36 (dk_at dksX5_twin_1 0 rfl rfl)
theorem dX5_twin_27 : decode cX5_twin 27 = .ok (.areturn, 1) := dk_176 (dk_at dksX5_twin_1 3 rfl rfl)
abbrev cX5_init : ByteArray := prog_8_method_1_code
def yX5_init : MethodName := ⟨RX5, "<init>", "(IIII)V"⟩
def dkwX5_init_1 : List UInt8 := [181, 0, 21, 42, 21, 4, 181, 0, 24, 42, 2, 181, 0, 27, 42, 2, 181, 0, 30, 177]
abbrev dktX5_init_1 : List UInt8 := dkwX5_init_1 ++ []
def dkwX5_init_0 : List UInt8 := [42, 183, 0, 3, 42, 27, 181, 0, 9, 42, 28, 181, 0, 15, 42, 29, 181, 0, 18, 42, 21, 4]
abbrev dktX5_init_0 : List UInt8 := dkwX5_init_0 ++ dktX5_init_1
theorem dksX5_init_0 : cX5_init.data.toList.drop 0 = dktX5_init_0 := by decide +kernel
theorem dksX5_init_1 : cX5_init.data.toList.drop 22 = dktX5_init_1 := dk_seg dksX5_init_0 22 rfl rfl
theorem dX5_init_0 : decode cX5_init 0 = .ok (.aload_n 0, 1) := dk_42 (dk_at dksX5_init_0 0 rfl rfl)
theorem dX5_init_1 : decode cX5_init 1 = .ok (.invokespecial 3, 3) := dk_183 0 3 (dk_at dksX5_init_0 1 rfl rfl)
theorem dX5_init_4 : decode cX5_init 4 = .ok (.aload_n 0, 1) := dk_42 (dk_at dksX5_init_0 4 rfl rfl)
theorem dX5_init_5 : decode cX5_init 5 = .ok (.iload_n 1, 1) := dk_27 (dk_at dksX5_init_0 5 rfl rfl)
theorem dX5_init_6 : decode cX5_init 6 = .ok (.putfield 9, 3) := dk_181 0 9 (dk_at dksX5_init_0 6 rfl rfl)
theorem dX5_init_9 : decode cX5_init 9 = .ok (.aload_n 0, 1) := dk_42 (dk_at dksX5_init_0 9 rfl rfl)
theorem dX5_init_10 : decode cX5_init 10 = .ok (.iload_n 2, 1) := dk_28 (dk_at dksX5_init_0 10 rfl rfl)
theorem dX5_init_11 : decode cX5_init 11 = .ok (.putfield 15, 3) := dk_181 0 15 (dk_at dksX5_init_0 11 rfl rfl)
theorem dX5_init_14 : decode cX5_init 14 = .ok (.aload_n 0, 1) := dk_42 (dk_at dksX5_init_0 14 rfl rfl)
theorem dX5_init_15 : decode cX5_init 15 = .ok (.iload_n 3, 1) := dk_29 (dk_at dksX5_init_0 15 rfl rfl)
theorem dX5_init_16 : decode cX5_init 16 = .ok (.putfield 18, 3) := dk_181 0 18 (dk_at dksX5_init_0 16 rfl rfl)
theorem dX5_init_19 : decode cX5_init 19 = .ok (.aload_n 0, 1) := dk_42 (dk_at dksX5_init_0 19 rfl rfl)
theorem dX5_init_20 : decode cX5_init 20 = .ok (.iload 4, 2) := dk_21 4 (dk_at dksX5_init_0 20 rfl rfl)
theorem dX5_init_22 : decode cX5_init 22 = .ok (.putfield 21, 3) := dk_181 0 21 (dk_at dksX5_init_1 0 rfl rfl)
theorem dX5_init_25 : decode cX5_init 25 = .ok (.aload_n 0, 1) := dk_42 (dk_at dksX5_init_1 3 rfl rfl)
theorem dX5_init_26 : decode cX5_init 26 = .ok (.iload 4, 2) := dk_21 4 (dk_at dksX5_init_1 4 rfl rfl)
theorem dX5_init_28 : decode cX5_init 28 = .ok (.putfield 24, 3) := dk_181 0 24 (dk_at dksX5_init_1 6 rfl rfl)
theorem dX5_init_31 : decode cX5_init 31 = .ok (.aload_n 0, 1) := dk_42 (dk_at dksX5_init_1 9 rfl rfl)
theorem dX5_init_32 : decode cX5_init 32 = .ok (.iconst (-1), 1) := dk_2 (dk_at dksX5_init_1 10 rfl rfl)
theorem dX5_init_33 : decode cX5_init 33 = .ok (.putfield 27, 3) := dk_181 0 27 (dk_at dksX5_init_1 11 rfl rfl)
theorem dX5_init_36 : decode cX5_init 36 = .ok (.aload_n 0, 1) := dk_42 (dk_at dksX5_init_1 14 rfl rfl)
theorem dX5_init_37 : decode cX5_init 37 = .ok (.iconst (-1), 1) := dk_2 (dk_at dksX5_init_1 15 rfl rfl)
theorem dX5_init_38 : decode cX5_init 38 = .ok (.putfield 30, 3) := dk_181 0 30 (dk_at dksX5_init_1 16 rfl rfl)
theorem dX5_init_41 : decode cX5_init 41 = .ok (.return_, 1) := dk_177 (dk_at dksX5_init_1 19 rfl rfl)
abbrev cX5_takes : ByteArray := prog_8_method_4_code
def yX5_takes : MethodName := ⟨RX5, "takes", "(LSortingLoop$Parcel;)LSortingLoop$Parcel;"⟩
def dkwX5_takes_2 : List UInt8 := [42, 43, 180, 0, 30, 181, 0, 30, 42, 43, 180, 0, 46, 181, 0, 46, 42, 176]
abbrev dktX5_takes_2 : List UInt8 := dkwX5_takes_2 ++ []
def dkwX5_takes_1 : List UInt8 := [42, 43, 180, 0, 21, 181, 0, 21, 42, 43, 180, 0, 24, 181, 0, 24, 42, 43, 180, 0, 27, 181, 0, 27]
abbrev dktX5_takes_1 : List UInt8 := dkwX5_takes_1 ++ dktX5_takes_2
def dkwX5_takes_0 : List UInt8 := [42, 43, 180, 0, 18, 181, 0, 18, 42, 43, 180, 0, 40, 181, 0, 40, 42, 43, 180, 0, 43, 181, 0, 43]
abbrev dktX5_takes_0 : List UInt8 := dkwX5_takes_0 ++ dktX5_takes_1
theorem dksX5_takes_0 : cX5_takes.data.toList.drop 0 = dktX5_takes_0 := by decide +kernel
theorem dksX5_takes_1 : cX5_takes.data.toList.drop 24 = dktX5_takes_1 := dk_seg dksX5_takes_0 24 rfl rfl
theorem dksX5_takes_2 : cX5_takes.data.toList.drop 48 = dktX5_takes_2 := dk_seg dksX5_takes_1 24 rfl rfl
theorem dX5_takes_0 : decode cX5_takes 0 = .ok (.aload_n 0, 1) := dk_42 (dk_at dksX5_takes_0 0 rfl rfl)
theorem dX5_takes_1 : decode cX5_takes 1 = .ok (.aload_n 1, 1) := dk_43 (dk_at dksX5_takes_0 1 rfl rfl)
theorem dX5_takes_2 : decode cX5_takes 2 = .ok (.getfield 18, 3) := dk_180 0 18 (dk_at dksX5_takes_0 2 rfl rfl)
theorem dX5_takes_5 : decode cX5_takes 5 = .ok (.putfield 18, 3) := dk_181 0 18 (dk_at dksX5_takes_0 5 rfl rfl)
theorem dX5_takes_8 : decode cX5_takes 8 = .ok (.aload_n 0, 1) := dk_42 (dk_at dksX5_takes_0 8 rfl rfl)
theorem dX5_takes_9 : decode cX5_takes 9 = .ok (.aload_n 1, 1) := dk_43 (dk_at dksX5_takes_0 9 rfl rfl)
theorem dX5_takes_10 : decode cX5_takes 10 = .ok (.getfield 40, 3) := dk_180 0 40 (dk_at dksX5_takes_0 10 rfl rfl)
theorem dX5_takes_13 : decode cX5_takes 13 = .ok (.putfield 40, 3) := dk_181 0 40 (dk_at dksX5_takes_0 13 rfl rfl)
theorem dX5_takes_16 : decode cX5_takes 16 = .ok (.aload_n 0, 1) := dk_42 (dk_at dksX5_takes_0 16 rfl rfl)
theorem dX5_takes_17 : decode cX5_takes 17 = .ok (.aload_n 1, 1) := dk_43 (dk_at dksX5_takes_0 17 rfl rfl)
theorem dX5_takes_18 : decode cX5_takes 18 = .ok (.getfield 43, 3) := dk_180 0 43 (dk_at dksX5_takes_0 18 rfl rfl)
theorem dX5_takes_21 : decode cX5_takes 21 = .ok (.putfield 43, 3) := dk_181 0 43 (dk_at dksX5_takes_0 21 rfl rfl)
theorem dX5_takes_24 : decode cX5_takes 24 = .ok (.aload_n 0, 1) := dk_42 (dk_at dksX5_takes_1 0 rfl rfl)
theorem dX5_takes_25 : decode cX5_takes 25 = .ok (.aload_n 1, 1) := dk_43 (dk_at dksX5_takes_1 1 rfl rfl)
theorem dX5_takes_26 : decode cX5_takes 26 = .ok (.getfield 21, 3) := dk_180 0 21 (dk_at dksX5_takes_1 2 rfl rfl)
theorem dX5_takes_29 : decode cX5_takes 29 = .ok (.putfield 21, 3) := dk_181 0 21 (dk_at dksX5_takes_1 5 rfl rfl)
theorem dX5_takes_32 : decode cX5_takes 32 = .ok (.aload_n 0, 1) := dk_42 (dk_at dksX5_takes_1 8 rfl rfl)
theorem dX5_takes_33 : decode cX5_takes 33 = .ok (.aload_n 1, 1) := dk_43 (dk_at dksX5_takes_1 9 rfl rfl)
theorem dX5_takes_34 : decode cX5_takes 34 = .ok (.getfield 24, 3) := dk_180 0 24 (dk_at dksX5_takes_1 10 rfl rfl)
theorem dX5_takes_37 : decode cX5_takes 37 = .ok (.putfield 24, 3) := dk_181 0 24 (dk_at dksX5_takes_1 13 rfl rfl)
theorem dX5_takes_40 : decode cX5_takes 40 = .ok (.aload_n 0, 1) := dk_42 (dk_at dksX5_takes_1 16 rfl rfl)
theorem dX5_takes_41 : decode cX5_takes 41 = .ok (.aload_n 1, 1) := dk_43 (dk_at dksX5_takes_1 17 rfl rfl)
theorem dX5_takes_42 : decode cX5_takes 42 = .ok (.getfield 27, 3) := dk_180 0 27 (dk_at dksX5_takes_1 18 rfl rfl)
theorem dX5_takes_45 : decode cX5_takes 45 = .ok (.putfield 27, 3) := dk_181 0 27 (dk_at dksX5_takes_1 21 rfl rfl)
theorem dX5_takes_48 : decode cX5_takes 48 = .ok (.aload_n 0, 1) := dk_42 (dk_at dksX5_takes_2 0 rfl rfl)
theorem dX5_takes_49 : decode cX5_takes 49 = .ok (.aload_n 1, 1) := dk_43 (dk_at dksX5_takes_2 1 rfl rfl)
theorem dX5_takes_50 : decode cX5_takes 50 = .ok (.getfield 30, 3) := dk_180 0 30 (dk_at dksX5_takes_2 2 rfl rfl)
theorem dX5_takes_53 : decode cX5_takes 53 = .ok (.putfield 30, 3) := dk_181 0 30 (dk_at dksX5_takes_2 5 rfl rfl)
theorem dX5_takes_56 : decode cX5_takes 56 = .ok (.aload_n 0, 1) := dk_42 (dk_at dksX5_takes_2 8 rfl rfl)
theorem dX5_takes_57 : decode cX5_takes 57 = .ok (.aload_n 1, 1) := dk_43 (dk_at dksX5_takes_2 9 rfl rfl)
theorem dX5_takes_58 : decode cX5_takes 58 = .ok (.getfield 46, 3) := dk_180 0 46 (dk_at dksX5_takes_2 10 rfl rfl)
theorem dX5_takes_61 : decode cX5_takes 61 = .ok (.putfield 46, 3) := dk_181 0 46 (dk_at dksX5_takes_2 13 rfl rfl)
theorem dX5_takes_64 : decode cX5_takes 64 = .ok (.aload_n 0, 1) := dk_42 (dk_at dksX5_takes_2 16 rfl rfl)
theorem dX5_takes_65 : decode cX5_takes 65 = .ok (.areturn, 1) := dk_176 (dk_at dksX5_takes_2 17 rfl rfl)
abbrev cX5_isOn : ByteArray := prog_8_method_5_code
def yX5_isOn : MethodName := ⟨RX5, "isOn", "()Z"⟩
def dkwX5_isOn_0 : List UInt8 := [42, 180, 0, 43, 154, 0, 7, 4, 167, 0, 4, 3, 172]
abbrev dktX5_isOn_0 : List UInt8 := dkwX5_isOn_0 ++ []
theorem dksX5_isOn_0 : cX5_isOn.data.toList.drop 0 = dktX5_isOn_0 := by decide +kernel
theorem dX5_isOn_0 : decode cX5_isOn 0 = .ok (.aload_n 0, 1) := dk_42 (dk_at dksX5_isOn_0 0 rfl rfl)
theorem dX5_isOn_1 : decode cX5_isOn 1 = .ok (.getfield 43, 3) := dk_180 0 43 (dk_at dksX5_isOn_0 1 rfl rfl)
theorem dX5_isOn_4 : decode cX5_isOn 4 = .ok (.ifCond .ne 7, 3) := dk_154 0 7 (dk_at dksX5_isOn_0 4 rfl rfl)
theorem dX5_isOn_7 : decode cX5_isOn 7 = .ok (.iconst 1, 1) := dk_4 (dk_at dksX5_isOn_0 7 rfl rfl)
theorem dX5_isOn_8 : decode cX5_isOn 8 = .ok (.goto 4, 3) := dk_167 0 4 (dk_at dksX5_isOn_0 8 rfl rfl)
theorem dX5_isOn_11 : decode cX5_isOn 11 = .ok (.iconst 0, 1) := dk_3 (dk_at dksX5_isOn_0 11 rfl rfl)
theorem dX5_isOn_12 : decode cX5_isOn 12 = .ok (.ireturn, 1) := dk_172 (dk_at dksX5_isOn_0 12 rfl rfl)
abbrev cX5_isTracked : ByteArray := prog_8_method_6_code
def yX5_isTracked : MethodName := ⟨RX5, "isTracked", "()Z"⟩
def dkwX5_isTracked_0 : List UInt8 := [42, 180, 0, 43, 154, 0, 15, 42, 180, 0, 24, 2, 159, 0, 7, 4, 167, 0, 4, 3, 172]
abbrev dktX5_isTracked_0 : List UInt8 := dkwX5_isTracked_0 ++ []
theorem dksX5_isTracked_0 : cX5_isTracked.data.toList.drop 0 = dktX5_isTracked_0 := by decide +kernel
theorem dX5_isTracked_0 : decode cX5_isTracked 0 = .ok (.aload_n 0, 1) := dk_42 (dk_at dksX5_isTracked_0 0 rfl rfl)
theorem dX5_isTracked_1 : decode cX5_isTracked 1 = .ok (.getfield 43, 3) := dk_180 0 43 (dk_at dksX5_isTracked_0 1 rfl rfl)
theorem dX5_isTracked_4 : decode cX5_isTracked 4 = .ok (.ifCond .ne 15, 3) := dk_154 0 15 (dk_at dksX5_isTracked_0 4 rfl rfl)
theorem dX5_isTracked_7 : decode cX5_isTracked 7 = .ok (.aload_n 0, 1) := dk_42 (dk_at dksX5_isTracked_0 7 rfl rfl)
theorem dX5_isTracked_8 : decode cX5_isTracked 8 = .ok (.getfield 24, 3) := dk_180 0 24 (dk_at dksX5_isTracked_0 8 rfl rfl)
theorem dX5_isTracked_11 : decode cX5_isTracked 11 = .ok (.iconst (-1), 1) := dk_2 (dk_at dksX5_isTracked_0 11 rfl rfl)
theorem dX5_isTracked_12 : decode cX5_isTracked 12 = .ok (.if_icmp .eq 7, 3) := dk_159 0 7 (dk_at dksX5_isTracked_0 12 rfl rfl)
theorem dX5_isTracked_15 : decode cX5_isTracked 15 = .ok (.iconst 1, 1) := dk_4 (dk_at dksX5_isTracked_0 15 rfl rfl)
theorem dX5_isTracked_16 : decode cX5_isTracked 16 = .ok (.goto 4, 3) := dk_167 0 4 (dk_at dksX5_isTracked_0 16 rfl rfl)
theorem dX5_isTracked_19 : decode cX5_isTracked 19 = .ok (.iconst 0, 1) := dk_3 (dk_at dksX5_isTracked_0 19 rfl rfl)
theorem dX5_isTracked_20 : decode cX5_isTracked 20 = .ok (.ireturn, 1) := dk_172 (dk_at dksX5_isTracked_0 20 rfl rfl)
abbrev cX5_leaves : ByteArray := prog_8_method_7_code
def yX5_leaves : MethodName := ⟨RX5, "leaves", "(II)V"⟩
def dkwX5_leaves_0 : List UInt8 := [42, 27, 181, 0, 43, 42, 2, 181, 0, 21, 42, 2, 181, 0, 24, 42, 28, 181, 0, 30, 177]
abbrev dktX5_leaves_0 : List UInt8 := dkwX5_leaves_0 ++ []
theorem dksX5_leaves_0 : cX5_leaves.data.toList.drop 0 = dktX5_leaves_0 := by decide +kernel
theorem dX5_leaves_0 : decode cX5_leaves 0 = .ok (.aload_n 0, 1) := dk_42 (dk_at dksX5_leaves_0 0 rfl rfl)
theorem dX5_leaves_1 : decode cX5_leaves 1 = .ok (.iload_n 1, 1) := dk_27 (dk_at dksX5_leaves_0 1 rfl rfl)
theorem dX5_leaves_2 : decode cX5_leaves 2 = .ok (.putfield 43, 3) := dk_181 0 43 (dk_at dksX5_leaves_0 2 rfl rfl)
theorem dX5_leaves_5 : decode cX5_leaves 5 = .ok (.aload_n 0, 1) := dk_42 (dk_at dksX5_leaves_0 5 rfl rfl)
theorem dX5_leaves_6 : decode cX5_leaves 6 = .ok (.iconst (-1), 1) := dk_2 (dk_at dksX5_leaves_0 6 rfl rfl)
theorem dX5_leaves_7 : decode cX5_leaves 7 = .ok (.putfield 21, 3) := dk_181 0 21 (dk_at dksX5_leaves_0 7 rfl rfl)
theorem dX5_leaves_10 : decode cX5_leaves 10 = .ok (.aload_n 0, 1) := dk_42 (dk_at dksX5_leaves_0 10 rfl rfl)
theorem dX5_leaves_11 : decode cX5_leaves 11 = .ok (.iconst (-1), 1) := dk_2 (dk_at dksX5_leaves_0 11 rfl rfl)
theorem dX5_leaves_12 : decode cX5_leaves 12 = .ok (.putfield 24, 3) := dk_181 0 24 (dk_at dksX5_leaves_0 12 rfl rfl)
theorem dX5_leaves_15 : decode cX5_leaves 15 = .ok (.aload_n 0, 1) := dk_42 (dk_at dksX5_leaves_0 15 rfl rfl)
theorem dX5_leaves_16 : decode cX5_leaves 16 = .ok (.iload_n 2, 1) := dk_28 (dk_at dksX5_leaves_0 16 rfl rfl)
theorem dX5_leaves_17 : decode cX5_leaves 17 = .ok (.putfield 30, 3) := dk_181 0 30 (dk_at dksX5_leaves_0 17 rfl rfl)
theorem dX5_leaves_20 : decode cX5_leaves 20 = .ok (.return_, 1) := dk_177 (dk_at dksX5_leaves_0 20 rfl rfl)
abbrev cX5_number : ByteArray := prog_8_method_2_code
def yX5_number : MethodName := ⟨RX5, "number", "()I"⟩
theorem dX5_number_0 : decode cX5_number 0 = .ok (.aload_n 0, 1) := by decide +kernel
theorem dX5_number_1 : decode cX5_number 1 = .ok (.getfield 9, 3) := by decide +kernel
theorem dX5_number_4 : decode cX5_number 4 = .ok (.ireturn, 1) := by decide +kernel
abbrev cX5_isSorted : ByteArray := prog_8_method_8_code
def yX5_isSorted : MethodName := ⟨RX5, "isSorted", "()Z"⟩
def dkwX5_isSorted_1 : List UInt8 := [160, 0, 7, 4, 167, 0, 4, 3, 172]
abbrev dktX5_isSorted_1 : List UInt8 := dkwX5_isSorted_1 ++ []
def dkwX5_isSorted_0 : List UInt8 := [42, 180, 0, 43, 4, 159, 0, 11, 42, 180, 0, 43, 5, 160, 0, 18, 42, 180, 0, 27, 42, 180, 0, 15]
abbrev dktX5_isSorted_0 : List UInt8 := dkwX5_isSorted_0 ++ dktX5_isSorted_1
theorem dksX5_isSorted_0 : cX5_isSorted.data.toList.drop 0 = dktX5_isSorted_0 := by decide +kernel
theorem dksX5_isSorted_1 : cX5_isSorted.data.toList.drop 24 = dktX5_isSorted_1 := dk_seg dksX5_isSorted_0 24 rfl rfl
theorem dX5_isSorted_0 : decode cX5_isSorted 0 = .ok (.aload_n 0, 1) := dk_42 (dk_at dksX5_isSorted_0 0 rfl rfl)
theorem dX5_isSorted_1 : decode cX5_isSorted 1 = .ok (.getfield 43, 3) := dk_180 0 43 (dk_at dksX5_isSorted_0 1 rfl rfl)
theorem dX5_isSorted_4 : decode cX5_isSorted 4 = .ok (.iconst 1, 1) := dk_4 (dk_at dksX5_isSorted_0 4 rfl rfl)
theorem dX5_isSorted_5 : decode cX5_isSorted 5 = .ok (.if_icmp .eq 11, 3) := dk_159 0 11 (dk_at dksX5_isSorted_0 5 rfl rfl)
theorem dX5_isSorted_8 : decode cX5_isSorted 8 = .ok (.aload_n 0, 1) := dk_42 (dk_at dksX5_isSorted_0 8 rfl rfl)
theorem dX5_isSorted_9 : decode cX5_isSorted 9 = .ok (.getfield 43, 3) := dk_180 0 43 (dk_at dksX5_isSorted_0 9 rfl rfl)
theorem dX5_isSorted_12 : decode cX5_isSorted 12 = .ok (.iconst 2, 1) := dk_5 (dk_at dksX5_isSorted_0 12 rfl rfl)
theorem dX5_isSorted_13 : decode cX5_isSorted 13 = .ok (.if_icmp .ne 18, 3) := dk_160 0 18 (dk_at dksX5_isSorted_0 13 rfl rfl)
theorem dX5_isSorted_16 : decode cX5_isSorted 16 = .ok (.aload_n 0, 1) := dk_42 (dk_at dksX5_isSorted_0 16 rfl rfl)
theorem dX5_isSorted_17 : decode cX5_isSorted 17 = .ok (.getfield 27, 3) := dk_180 0 27 (dk_at dksX5_isSorted_0 17 rfl rfl)
theorem dX5_isSorted_20 : decode cX5_isSorted 20 = .ok (.aload_n 0, 1) := dk_42 (dk_at dksX5_isSorted_0 20 rfl rfl)
theorem dX5_isSorted_21 : decode cX5_isSorted 21 = .ok (.getfield 15, 3) := dk_180 0 15 (dk_at dksX5_isSorted_0 21 rfl rfl)
theorem dX5_isSorted_24 : decode cX5_isSorted 24 = .ok (.if_icmp .ne 7, 3) := dk_160 0 7 (dk_at dksX5_isSorted_1 0 rfl rfl)
theorem dX5_isSorted_27 : decode cX5_isSorted 27 = .ok (.iconst 1, 1) := dk_4 (dk_at dksX5_isSorted_1 3 rfl rfl)
theorem dX5_isSorted_28 : decode cX5_isSorted 28 = .ok (.goto 4, 3) := dk_167 0 4 (dk_at dksX5_isSorted_1 4 rfl rfl)
theorem dX5_isSorted_31 : decode cX5_isSorted 31 = .ok (.iconst 0, 1) := dk_3 (dk_at dksX5_isSorted_1 7 rfl rfl)
theorem dX5_isSorted_32 : decode cX5_isSorted 32 = .ok (.ireturn, 1) := dk_172 (dk_at dksX5_isSorted_1 8 rfl rfl)
theorem q167 : (Jvm.Cond.initialized "SortingLoop$Parcel") ∈ lw_all := lw_g (lw_at lw_m1 30 rfl) rfl
theorem q611 : (Jvm.Cond.selects "SortingLoop$Parcel" ({ cls := "java/lang/Object", name := "getClass", desc := "()Ljava/lang/Class;" } : Jvm.MethodName) ({ cls := "java/lang/Object", name := "getClass", desc := "()Ljava/lang/Class;" } : Jvm.MethodName)) ∈ lw_all := lw_g (lw_at lw_m2 234 rfl) rfl
theorem q948 : (Jvm.Cond.instanceMethod ({ cls := "SortingLoop$Parcel", name := "twin", desc := "()LSortingLoop$Parcel;" } : Jvm.MethodName)) ∈ lw_all := lw_g (lw_at lw_m4 91 rfl) rfl
theorem q949 : (Jvm.Cond.selects "SortingLoop$Parcel" ({ cls := "SortingLoop$Parcel", name := "twin", desc := "()LSortingLoop$Parcel;" } : Jvm.MethodName) ({ cls := "SortingLoop$Parcel", name := "twin", desc := "()LSortingLoop$Parcel;" } : Jvm.MethodName)) ∈ lw_all := lw_g (lw_at lw_m4 92 rfl) rfl
theorem q950 : (Jvm.Cond.code ({ cls := "SortingLoop$Parcel", name := "twin", desc := "()LSortingLoop$Parcel;" } : Jvm.MethodName) prog_8_method_3_code (1 : Nat) (Option.some (Jvm.ClassFile.FieldType.object "SortingLoop$Parcel"))) ∈ lw_all := lw_g (lw_at lw_m4 93 rfl) rfl
theorem q951 : (Jvm.Cond.classLink "SortingLoop$Parcel" (10 : Nat) "SortingLoop$Parcel") ∈ lw_all := lw_g (lw_at lw_m4 94 rfl) rfl
theorem q952 : (Jvm.Cond.instantiable "SortingLoop$Parcel" (10 : Nat)) ∈ lw_all := lw_g (lw_at lw_m4 95 rfl) rfl
theorem q953 : (Jvm.Cond.methodLink "SortingLoop$Parcel" (33 : Nat) ({ cls := "SortingLoop$Parcel", name := "<init>", desc := "(IIII)V" } : Jvm.MethodName)) ∈ lw_all := lw_g (lw_at lw_m4 96 rfl) rfl
theorem q954 : (Jvm.Cond.instanceMethod ({ cls := "SortingLoop$Parcel", name := "<init>", desc := "(IIII)V" } : Jvm.MethodName)) ∈ lw_all := lw_g (lw_at lw_m4 97 rfl) rfl
theorem q955 : (Jvm.Cond.code ({ cls := "SortingLoop$Parcel", name := "<init>", desc := "(IIII)V" } : Jvm.MethodName) prog_8_method_1_code (5 : Nat) (Option.none : Option Jvm.ClassFile.FieldType)) ∈ lw_all := lw_g (lw_at lw_m4 98 rfl) rfl
theorem q956 : (Jvm.Cond.methodLink "SortingLoop$Parcel" (3 : Nat) ({ cls := "java/lang/Object", name := "<init>", desc := "()V" } : Jvm.MethodName)) ∈ lw_all := lw_g (lw_at lw_m4 99 rfl) rfl
theorem q957 : (Jvm.Cond.fieldLink "SortingLoop$Parcel" (9 : Nat) "SortingLoop$Parcel" "number" "I") ∈ lw_all := lw_g (lw_at lw_m4 100 rfl) rfl
theorem q960 : (Jvm.Cond.fieldLink "SortingLoop$Parcel" (15 : Nat) "SortingLoop$Parcel" "dest" "I") ∈ lw_all := lw_g (lw_at lw_m4 103 rfl) rfl
theorem q964 : (Jvm.Cond.fieldLink "SortingLoop$Parcel" (18 : Nat) "SortingLoop$Parcel" "torn" "I") ∈ lw_all := lw_g (lw_at lw_m4 107 rfl) rfl
theorem q967 : (Jvm.Cond.fieldLink "SortingLoop$Parcel" (40 : Nat) "SortingLoop$Parcel" "laps" "I") ∈ lw_all := lw_g (lw_at lw_m4 110 rfl) rfl
theorem q970 : (Jvm.Cond.fieldLink "SortingLoop$Parcel" (43 : Nat) "SortingLoop$Parcel" "what" "I") ∈ lw_all := lw_g (lw_at lw_m4 113 rfl) rfl
theorem q973 : (Jvm.Cond.fieldLink "SortingLoop$Parcel" (21 : Nat) "SortingLoop$Parcel" "cell" "I") ∈ lw_all := lw_g (lw_at lw_m4 116 rfl) rfl
theorem q976 : (Jvm.Cond.fieldLink "SortingLoop$Parcel" (24 : Nat) "SortingLoop$Parcel" "track" "I") ∈ lw_all := lw_g (lw_at lw_m4 119 rfl) rfl
theorem q979 : (Jvm.Cond.fieldLink "SortingLoop$Parcel" (27 : Nat) "SortingLoop$Parcel" "chute" "I") ∈ lw_all := lw_g (lw_at lw_m4 122 rfl) rfl
theorem q982 : (Jvm.Cond.fieldLink "SortingLoop$Parcel" (30 : Nat) "SortingLoop$Parcel" "left" "I") ∈ lw_all := lw_g (lw_at lw_m4 125 rfl) rfl
theorem q984 : (Jvm.Cond.fieldLink "SortingLoop$Parcel" (46 : Nat) "SortingLoop$Parcel" "slipped" "Z") ∈ lw_all := lw_g (lw_at lw_m4 127 rfl) rfl
theorem q987 : (Jvm.Cond.laysFinal "SortingLoop$Parcel" "SortingLoop$Parcel" "number" "I") ∈ lw_all := lw_g (lw_at lw_m4 130 rfl) rfl
theorem q988 : (Jvm.Cond.soleField "SortingLoop$Parcel" "number") ∈ lw_all := lw_g (lw_at lw_m4 131 rfl) rfl
theorem q989 : (Jvm.Cond.laysFinal "SortingLoop$Parcel" "SortingLoop$Parcel" "dest" "I") ∈ lw_all := lw_g (lw_at lw_m4 132 rfl) rfl
theorem q990 : (Jvm.Cond.soleField "SortingLoop$Parcel" "dest") ∈ lw_all := lw_g (lw_at lw_m4 133 rfl) rfl
theorem q991 : (Jvm.Cond.lays "SortingLoop$Parcel" "SortingLoop$Parcel" "torn" "I") ∈ lw_all := lw_g (lw_at lw_m4 134 rfl) rfl
theorem q992 : (Jvm.Cond.soleField "SortingLoop$Parcel" "torn") ∈ lw_all := lw_g (lw_at lw_m4 135 rfl) rfl
theorem q993 : (Jvm.Cond.lays "SortingLoop$Parcel" "SortingLoop$Parcel" "laps" "I") ∈ lw_all := lw_g (lw_at lw_m4 136 rfl) rfl
theorem q994 : (Jvm.Cond.soleField "SortingLoop$Parcel" "laps") ∈ lw_all := lw_g (lw_at lw_m4 137 rfl) rfl
theorem q995 : (Jvm.Cond.lays "SortingLoop$Parcel" "SortingLoop$Parcel" "what" "I") ∈ lw_all := lw_g (lw_at lw_m4 138 rfl) rfl
theorem q996 : (Jvm.Cond.soleField "SortingLoop$Parcel" "what") ∈ lw_all := lw_g (lw_at lw_m4 139 rfl) rfl
theorem q997 : (Jvm.Cond.lays "SortingLoop$Parcel" "SortingLoop$Parcel" "cell" "I") ∈ lw_all := lw_g (lw_at lw_m4 140 rfl) rfl
theorem q998 : (Jvm.Cond.soleField "SortingLoop$Parcel" "cell") ∈ lw_all := lw_g (lw_at lw_m4 141 rfl) rfl
theorem q999 : (Jvm.Cond.lays "SortingLoop$Parcel" "SortingLoop$Parcel" "track" "I") ∈ lw_all := lw_g (lw_at lw_m4 142 rfl) rfl
theorem q1000 : (Jvm.Cond.soleField "SortingLoop$Parcel" "track") ∈ lw_all := lw_g (lw_at lw_m4 143 rfl) rfl
theorem q1001 : (Jvm.Cond.lays "SortingLoop$Parcel" "SortingLoop$Parcel" "chute" "I") ∈ lw_all := lw_g (lw_at lw_m4 144 rfl) rfl
theorem q1002 : (Jvm.Cond.soleField "SortingLoop$Parcel" "chute") ∈ lw_all := lw_g (lw_at lw_m4 145 rfl) rfl
theorem q1003 : (Jvm.Cond.lays "SortingLoop$Parcel" "SortingLoop$Parcel" "left" "I") ∈ lw_all := lw_g (lw_at lw_m4 146 rfl) rfl
theorem q1004 : (Jvm.Cond.soleField "SortingLoop$Parcel" "left") ∈ lw_all := lw_g (lw_at lw_m4 147 rfl) rfl
theorem q1005 : (Jvm.Cond.lays "SortingLoop$Parcel" "SortingLoop$Parcel" "slipped" "Z") ∈ lw_all := lw_g (lw_at lw_m4 148 rfl) rfl
theorem q1006 : (Jvm.Cond.soleField "SortingLoop$Parcel" "slipped") ∈ lw_all := lw_g (lw_at lw_m4 149 rfl) rfl
theorem q1007 : (Jvm.Cond.superclass "SortingLoop$Parcel" "java/lang/Object") ∈ lw_all := lw_g (lw_at lw_m4 150 rfl) rfl
theorem q1008 : (Jvm.Cond.methodLink "SortingLoop$Parcel" (36 : Nat) ({ cls := "SortingLoop$Parcel", name := "takes", desc := "(LSortingLoop$Parcel;)LSortingLoop$Parcel;" } : Jvm.MethodName)) ∈ lw_all := lw_g (lw_at lw_m4 151 rfl) rfl
theorem q1009 : (Jvm.Cond.instanceMethod ({ cls := "SortingLoop$Parcel", name := "takes", desc := "(LSortingLoop$Parcel;)LSortingLoop$Parcel;" } : Jvm.MethodName)) ∈ lw_all := lw_g (lw_at lw_m4 152 rfl) rfl
theorem q1010 : (Jvm.Cond.selects "SortingLoop$Parcel" ({ cls := "SortingLoop$Parcel", name := "takes", desc := "(LSortingLoop$Parcel;)LSortingLoop$Parcel;" } : Jvm.MethodName) ({ cls := "SortingLoop$Parcel", name := "takes", desc := "(LSortingLoop$Parcel;)LSortingLoop$Parcel;" } : Jvm.MethodName)) ∈ lw_all := lw_g (lw_at lw_m4 153 rfl) rfl
theorem q1011 : (Jvm.Cond.code ({ cls := "SortingLoop$Parcel", name := "takes", desc := "(LSortingLoop$Parcel;)LSortingLoop$Parcel;" } : Jvm.MethodName) prog_8_method_4_code (2 : Nat) (Option.some (Jvm.ClassFile.FieldType.object "SortingLoop$Parcel"))) ∈ lw_all := lw_g (lw_at lw_m4 154 rfl) rfl
theorem q1041 : (Jvm.Cond.instanceMethod ({ cls := "SortingLoop$Parcel", name := "isOn", desc := "()Z" } : Jvm.MethodName)) ∈ lw_all := lw_g (lw_at lw_m4 184 rfl) rfl
theorem q1042 : (Jvm.Cond.selects "SortingLoop$Parcel" ({ cls := "SortingLoop$Parcel", name := "isOn", desc := "()Z" } : Jvm.MethodName) ({ cls := "SortingLoop$Parcel", name := "isOn", desc := "()Z" } : Jvm.MethodName)) ∈ lw_all := lw_g (lw_at lw_m4 185 rfl) rfl
theorem q1043 : (Jvm.Cond.code ({ cls := "SortingLoop$Parcel", name := "isOn", desc := "()Z" } : Jvm.MethodName) prog_8_method_5_code (1 : Nat) (Option.some Jvm.ClassFile.FieldType.boolean)) ∈ lw_all := lw_g (lw_at lw_m4 186 rfl) rfl
theorem q2100 : (Jvm.Cond.instanceMethod ({ cls := "SortingLoop$Parcel", name := "isTracked", desc := "()Z" } : Jvm.MethodName)) ∈ lw_all := lw_g (lw_at lw_m9 43 rfl) rfl
theorem q2101 : (Jvm.Cond.selects "SortingLoop$Parcel" ({ cls := "SortingLoop$Parcel", name := "isTracked", desc := "()Z" } : Jvm.MethodName) ({ cls := "SortingLoop$Parcel", name := "isTracked", desc := "()Z" } : Jvm.MethodName)) ∈ lw_all := lw_g (lw_at lw_m9 44 rfl) rfl
theorem q2102 : (Jvm.Cond.code ({ cls := "SortingLoop$Parcel", name := "isTracked", desc := "()Z" } : Jvm.MethodName) prog_8_method_6_code (1 : Nat) (Option.some Jvm.ClassFile.FieldType.boolean)) ∈ lw_all := lw_g (lw_at lw_m9 45 rfl) rfl
theorem q2108 : (Jvm.Cond.instanceMethod ({ cls := "SortingLoop$Parcel", name := "leaves", desc := "(II)V" } : Jvm.MethodName)) ∈ lw_all := lw_g (lw_at lw_m9 51 rfl) rfl
theorem q2109 : (Jvm.Cond.selects "SortingLoop$Parcel" ({ cls := "SortingLoop$Parcel", name := "leaves", desc := "(II)V" } : Jvm.MethodName) ({ cls := "SortingLoop$Parcel", name := "leaves", desc := "(II)V" } : Jvm.MethodName)) ∈ lw_all := lw_g (lw_at lw_m9 52 rfl) rfl
theorem q2110 : (Jvm.Cond.code ({ cls := "SortingLoop$Parcel", name := "leaves", desc := "(II)V" } : Jvm.MethodName) prog_8_method_7_code (3 : Nat) (Option.none : Option Jvm.ClassFile.FieldType)) ∈ lw_all := lw_g (lw_at lw_m9 53 rfl) rfl
theorem q2212 : (Jvm.Cond.selects "SortingLoop$Parcel" ({ cls := "java/lang/Object", name := "equals", desc := "(Ljava/lang/Object;)Z" } : Jvm.MethodName) ({ cls := "java/lang/Object", name := "equals", desc := "(Ljava/lang/Object;)Z" } : Jvm.MethodName)) ∈ lw_all := lw_g (lw_at lw_m9 155 rfl) rfl
theorem q2245 : (Jvm.Cond.unhidden "SortingLoop$Parcel" "isAhead" "(LSortingLoop$Numbered;)Z") ∈ lw_tbl := lw_at lw_m9 188 rfl
theorem q2259 : (Jvm.Cond.castable "SortingLoop$Parcel" "SortingLoop$Numbered") ∈ lw_tbl := lw_at lw_m9 202 rfl
theorem q2260 : (Jvm.Cond.selects "SortingLoop$Parcel" ({ cls := "SortingLoop$Numbered", name := "number", desc := "()I" } : Jvm.MethodName) ({ cls := "SortingLoop$Parcel", name := "number", desc := "()I" } : Jvm.MethodName)) ∈ lw_all := lw_g (lw_at lw_m9 203 rfl) rfl
theorem q2261 : (Jvm.Cond.unhidden "SortingLoop$Parcel" "number" "()I") ∈ lw_tbl := lw_at lw_m9 204 rfl
theorem q2262 : (Jvm.Cond.instanceMethod ({ cls := "SortingLoop$Parcel", name := "number", desc := "()I" } : Jvm.MethodName)) ∈ lw_all := lw_g (lw_at lw_m9 205 rfl) rfl
theorem q2263 : (Jvm.Cond.publicMethod ({ cls := "SortingLoop$Parcel", name := "number", desc := "()I" } : Jvm.MethodName)) ∈ lw_tbl := lw_at lw_m9 206 rfl
theorem q2264 : (Jvm.Cond.code ({ cls := "SortingLoop$Parcel", name := "number", desc := "()I" } : Jvm.MethodName) prog_8_method_2_code (1 : Nat) (Option.some Jvm.ClassFile.FieldType.int)) ∈ lw_all := lw_g (lw_at lw_m9 207 rfl) rfl
theorem q2535 : (Jvm.Cond.instanceMethod ({ cls := "SortingLoop$Parcel", name := "isSorted", desc := "()Z" } : Jvm.MethodName)) ∈ lw_all := lw_g (lw_at lw_m10 238 rfl) rfl
theorem q2536 : (Jvm.Cond.selects "SortingLoop$Parcel" ({ cls := "SortingLoop$Parcel", name := "isSorted", desc := "()Z" } : Jvm.MethodName) ({ cls := "SortingLoop$Parcel", name := "isSorted", desc := "()Z" } : Jvm.MethodName)) ∈ lw_all := lw_g (lw_at lw_m10 239 rfl) rfl
theorem q2537 : (Jvm.Cond.code ({ cls := "SortingLoop$Parcel", name := "isSorted", desc := "()Z" } : Jvm.MethodName) prog_8_method_8_code (1 : Nat) (Option.some Jvm.ClassFile.FieldType.boolean)) ∈ lw_all := lw_g (lw_at lw_m11 0 rfl) rfl
theorem q3368 : (Jvm.Cond.castable "SortingLoop$Parcel" "java/lang/Object") ∈ lw_tbl := lw_at lw_m14 111 rfl
theorem in_X5 : ∀ w ∈ wsX50, w ∈ lw_all := lw_in wsX50 [987, 989, 991, 993, 995, 997, 999, 1001, 1003, 1005] (by decide +kernel) (by decide +kernel)

/-! SortingLoop$Parser -/
set_option maxRecDepth 100000
def RX7 : String := "SortingLoop$Parser"
abbrev cX7_init : ByteArray := prog_10_method_1_code
def yX7_init : MethodName := ⟨RX7, "<init>", "(LSortingLoop;)V"⟩
def dkwX7_init_0 : List UInt8 := [42, 43, 181, 0, 3, 42, 183, 0, 9, 42, 18, 15, 181, 0, 17, 42, 182, 0, 21, 177]
abbrev dktX7_init_0 : List UInt8 := dkwX7_init_0 ++ []
theorem dksX7_init_0 : cX7_init.data.toList.drop 0 = dktX7_init_0 := by decide +kernel
theorem dX7_init_0 : decode cX7_init 0 = .ok (.aload_n 0, 1) := dk_42 (dk_at dksX7_init_0 0 rfl rfl)
theorem dX7_init_1 : decode cX7_init 1 = .ok (.aload_n 1, 1) := dk_43 (dk_at dksX7_init_0 1 rfl rfl)
theorem dX7_init_2 : decode cX7_init 2 = .ok (.putfield 3, 3) := dk_181 0 3 (dk_at dksX7_init_0 2 rfl rfl)
theorem dX7_init_5 : decode cX7_init 5 = .ok (.aload_n 0, 1) := dk_42 (dk_at dksX7_init_0 5 rfl rfl)
theorem dX7_init_6 : decode cX7_init 6 = .ok (.invokespecial 9, 3) := dk_183 0 9 (dk_at dksX7_init_0 6 rfl rfl)
theorem dX7_init_9 : decode cX7_init 9 = .ok (.aload_n 0, 1) := dk_42 (dk_at dksX7_init_0 9 rfl rfl)
theorem dX7_init_10 : decode cX7_init 10 = .ok (.ldc 15, 2) := dk_18 15 (dk_at dksX7_init_0 10 rfl rfl)
theorem dX7_init_12 : decode cX7_init 12 = .ok (.putfield 17, 3) := dk_181 0 17 (dk_at dksX7_init_0 12 rfl rfl)
theorem dX7_init_15 : decode cX7_init 15 = .ok (.aload_n 0, 1) := dk_42 (dk_at dksX7_init_0 15 rfl rfl)
theorem dX7_init_16 : decode cX7_init 16 = .ok (.invokevirtual 21, 3) := dk_182 0 21 (dk_at dksX7_init_0 16 rfl rfl)
theorem dX7_init_19 : decode cX7_init 19 = .ok (.return_, 1) := dk_177 (dk_at dksX7_init_0 19 rfl rfl)
abbrev cX7_advance : ByteArray := prog_10_method_5_code
def yX7_advance : MethodName := ⟨RX7, "advance", "()V"⟩
def dkwX7_advance_11 : List UInt8 := [167, 0, 4, 7, 181, 0, 57, 42, 89, 180, 0, 51, 4, 96, 181, 0, 51, 177]
abbrev dktX7_advance_11 : List UInt8 := dkwX7_advance_11 ++ []
def dkwX7_advance_10 : List UInt8 := [182, 0, 68, 184, 0, 76, 167, 0, 4, 3, 181, 0, 82, 167, 0, 28, 42, 27, 16, 59, 160, 0, 7, 5]
abbrev dktX7_advance_10 : List UInt8 := dkwX7_advance_10 ++ dktX7_advance_11
def dkwX7_advance_9 : List UInt8 := [7, 181, 0, 57, 42, 42, 180, 0, 57, 4, 160, 0, 21, 42, 42, 180, 0, 54, 42, 180, 0, 51]
abbrev dktX7_advance_9 : List UInt8 := dkwX7_advance_9 ++ dktX7_advance_10
def dkwX7_advance_8 : List UInt8 := [182, 0, 64, 181, 0, 51, 42, 42, 180, 0, 51, 42, 180, 0, 54, 100, 6, 163, 0, 7, 4, 167, 0, 4]
abbrev dktX7_advance_8 : List UInt8 := dkwX7_advance_8 ++ dktX7_advance_9
def dkwX7_advance_7 : List UInt8 := [20, 0, 72, 20, 0, 74, 184, 0, 36, 153, 0, 75, 42, 42, 42, 180, 0, 54, 16, 48, 16, 57]
abbrev dktX7_advance_7 : List UInt8 := dkwX7_advance_7 ++ dktX7_advance_8
def dkwX7_advance_6 : List UInt8 := [180, 0, 54, 42, 180, 0, 51, 182, 0, 68, 167, 0, 5, 18, 15, 181, 0, 17, 167, 0, 114, 27, 133]
abbrev dktX7_advance_6 : List UInt8 := dkwX7_advance_6 ++ dktX7_advance_7
def dkwX7_advance_5 : List UInt8 := [16, 8, 163, 0, 7, 3, 167, 0, 4, 7, 181, 0, 57, 42, 42, 180, 0, 57, 154, 0, 18, 42, 42]
abbrev dktX7_advance_5 : List UInt8 := dkwX7_advance_5 ++ dktX7_advance_6
def dkwX7_advance_4 : List UInt8 := [180, 0, 54, 16, 97, 16, 122, 182, 0, 64, 181, 0, 51, 42, 42, 180, 0, 51, 42, 180, 0, 54, 100]
abbrev dktX7_advance_4 : List UInt8 := dkwX7_advance_4 ++ dktX7_advance_5
def dkwX7_advance_3 : List UInt8 := [181, 0, 57, 167, 0, 198, 27, 133, 20, 0, 60, 20, 0, 62, 184, 0, 36, 153, 0, 73, 42, 42, 42]
abbrev dktX7_advance_3 : List UInt8 := dkwX7_advance_3 ++ dktX7_advance_4
def dkwX7_advance_2 : List UInt8 := [42, 18, 15, 181, 0, 17, 42, 42, 180, 0, 54, 182, 0, 32, 60, 27, 2, 160, 0, 11, 42, 6]
abbrev dktX7_advance_2 : List UInt8 := dkwX7_advance_2 ++ dktX7_advance_3
def dkwX7_advance_1 : List UInt8 := [160, 0, 16, 42, 89, 180, 0, 51, 4, 96, 181, 0, 51, 167, 255, 220, 42, 42, 180, 0, 51, 181, 0, 54]
abbrev dktX7_advance_1 : List UInt8 := dkwX7_advance_1 ++ dktX7_advance_2
def dkwX7_advance_0 : List UInt8 := [42, 42, 180, 0, 51, 182, 0, 32, 16, 32, 159, 0, 16, 42, 42, 180, 0, 51, 182, 0, 32, 16, 10]
abbrev dktX7_advance_0 : List UInt8 := dkwX7_advance_0 ++ dktX7_advance_1
theorem dksX7_advance_0 : cX7_advance.data.toList.drop 0 = dktX7_advance_0 := by decide +kernel
theorem dksX7_advance_1 : cX7_advance.data.toList.drop 23 = dktX7_advance_1 := dk_seg dksX7_advance_0 23 rfl rfl
theorem dksX7_advance_2 : cX7_advance.data.toList.drop 47 = dktX7_advance_2 := dk_seg dksX7_advance_1 24 rfl rfl
theorem dksX7_advance_3 : cX7_advance.data.toList.drop 69 = dktX7_advance_3 := dk_seg dksX7_advance_2 22 rfl rfl
theorem dksX7_advance_4 : cX7_advance.data.toList.drop 92 = dktX7_advance_4 := dk_seg dksX7_advance_3 23 rfl rfl
theorem dksX7_advance_5 : cX7_advance.data.toList.drop 115 = dktX7_advance_5 := dk_seg dksX7_advance_4 23 rfl rfl
theorem dksX7_advance_6 : cX7_advance.data.toList.drop 138 = dktX7_advance_6 := dk_seg dksX7_advance_5 23 rfl rfl
theorem dksX7_advance_7 : cX7_advance.data.toList.drop 161 = dktX7_advance_7 := dk_seg dksX7_advance_6 23 rfl rfl
theorem dksX7_advance_8 : cX7_advance.data.toList.drop 183 = dktX7_advance_8 := dk_seg dksX7_advance_7 22 rfl rfl
theorem dksX7_advance_9 : cX7_advance.data.toList.drop 207 = dktX7_advance_9 := dk_seg dksX7_advance_8 24 rfl rfl
theorem dksX7_advance_10 : cX7_advance.data.toList.drop 229 = dktX7_advance_10 := dk_seg dksX7_advance_9 22 rfl rfl
theorem dksX7_advance_11 : cX7_advance.data.toList.drop 253 = dktX7_advance_11 := dk_seg dksX7_advance_10 24 rfl rfl
theorem dX7_advance_0 : decode cX7_advance 0 = .ok (.aload_n 0, 1) := dk_42 (dk_at dksX7_advance_0 0 rfl rfl)
theorem dX7_advance_1 : decode cX7_advance 1 = .ok (.aload_n 0, 1) := dk_42 (dk_at dksX7_advance_0 1 rfl rfl)
theorem dX7_advance_2 : decode cX7_advance 2 = .ok (.getfield 51, 3) := dk_180 0 51 (dk_at dksX7_advance_0 2 rfl rfl)
theorem dX7_advance_5 : decode cX7_advance 5 = .ok (.invokevirtual 32, 3) := dk_182 0 32 (dk_at dksX7_advance_0 5 rfl rfl)
theorem dX7_advance_8 : decode cX7_advance 8 = .ok (.bipush 32, 2) := dk_16 32 (dk_at dksX7_advance_0 8 rfl rfl)
theorem dX7_advance_10 : decode cX7_advance 10 = .ok (.if_icmp .eq 16, 3) := dk_159 0 16 (dk_at dksX7_advance_0 10 rfl rfl)
theorem dX7_advance_13 : decode cX7_advance 13 = .ok (.aload_n 0, 1) := dk_42 (dk_at dksX7_advance_0 13 rfl rfl)
theorem dX7_advance_14 : decode cX7_advance 14 = .ok (.aload_n 0, 1) := dk_42 (dk_at dksX7_advance_0 14 rfl rfl)
theorem dX7_advance_15 : decode cX7_advance 15 = .ok (.getfield 51, 3) := dk_180 0 51 (dk_at dksX7_advance_0 15 rfl rfl)
theorem dX7_advance_18 : decode cX7_advance 18 = .ok (.invokevirtual 32, 3) := dk_182 0 32 (dk_at dksX7_advance_0 18 rfl rfl)
theorem dX7_advance_21 : decode cX7_advance 21 = .ok (.bipush 10, 2) := dk_16 10 (dk_at dksX7_advance_0 21 rfl rfl)
theorem dX7_advance_23 : decode cX7_advance 23 = .ok (.if_icmp .ne 16, 3) := dk_160 0 16 (dk_at dksX7_advance_1 0 rfl rfl)
theorem dX7_advance_26 : decode cX7_advance 26 = .ok (.aload_n 0, 1) := dk_42 (dk_at dksX7_advance_1 3 rfl rfl)
theorem dX7_advance_27 : decode cX7_advance 27 = .ok (.dup, 1) := dk_89 (dk_at dksX7_advance_1 4 rfl rfl)
theorem dX7_advance_28 : decode cX7_advance 28 = .ok (.getfield 51, 3) := dk_180 0 51 (dk_at dksX7_advance_1 5 rfl rfl)
theorem dX7_advance_31 : decode cX7_advance 31 = .ok (.iconst 1, 1) := dk_4 (dk_at dksX7_advance_1 8 rfl rfl)
theorem dX7_advance_32 : decode cX7_advance 32 = .ok (.iadd, 1) := dk_96 (dk_at dksX7_advance_1 9 rfl rfl)
theorem dX7_advance_33 : decode cX7_advance 33 = .ok (.putfield 51, 3) := dk_181 0 51 (dk_at dksX7_advance_1 10 rfl rfl)
theorem dX7_advance_36 : decode cX7_advance 36 = .ok (.goto (-36), 3) := dk_167 255 220 (dk_at dksX7_advance_1 13 rfl rfl)
theorem dX7_advance_39 : decode cX7_advance 39 = .ok (.aload_n 0, 1) := dk_42 (dk_at dksX7_advance_1 16 rfl rfl)
theorem dX7_advance_40 : decode cX7_advance 40 = .ok (.aload_n 0, 1) := dk_42 (dk_at dksX7_advance_1 17 rfl rfl)
theorem dX7_advance_41 : decode cX7_advance 41 = .ok (.getfield 51, 3) := dk_180 0 51 (dk_at dksX7_advance_1 18 rfl rfl)
theorem dX7_advance_44 : decode cX7_advance 44 = .ok (.putfield 54, 3) := dk_181 0 54 (dk_at dksX7_advance_1 21 rfl rfl)
theorem dX7_advance_47 : decode cX7_advance 47 = .ok (.aload_n 0, 1) := dk_42 (dk_at dksX7_advance_2 0 rfl rfl)
theorem dX7_advance_48 : decode cX7_advance 48 = .ok (.ldc 15, 2) := dk_18 15 (dk_at dksX7_advance_2 1 rfl rfl)
theorem dX7_advance_50 : decode cX7_advance 50 = .ok (.putfield 17, 3) := dk_181 0 17 (dk_at dksX7_advance_2 3 rfl rfl)
theorem dX7_advance_53 : decode cX7_advance 53 = .ok (.aload_n 0, 1) := dk_42 (dk_at dksX7_advance_2 6 rfl rfl)
theorem dX7_advance_54 : decode cX7_advance 54 = .ok (.aload_n 0, 1) := dk_42 (dk_at dksX7_advance_2 7 rfl rfl)
theorem dX7_advance_55 : decode cX7_advance 55 = .ok (.getfield 54, 3) := dk_180 0 54 (dk_at dksX7_advance_2 8 rfl rfl)
theorem dX7_advance_58 : decode cX7_advance 58 = .ok (.invokevirtual 32, 3) := dk_182 0 32 (dk_at dksX7_advance_2 11 rfl rfl)
theorem dX7_advance_61 : decode cX7_advance 61 = .ok (.istore_n 1, 1) := dk_60 (dk_at dksX7_advance_2 14 rfl rfl)
theorem dX7_advance_62 : decode cX7_advance 62 = .ok (.iload_n 1, 1) := dk_27 (dk_at dksX7_advance_2 15 rfl rfl)
theorem dX7_advance_63 : decode cX7_advance 63 = .ok (.iconst (-1), 1) := dk_2 (dk_at dksX7_advance_2 16 rfl rfl)
theorem dX7_advance_64 : decode cX7_advance 64 = .ok (.if_icmp .ne 11, 3) := dk_160 0 11 (dk_at dksX7_advance_2 17 rfl rfl)
theorem dX7_advance_67 : decode cX7_advance 67 = .ok (.aload_n 0, 1) := dk_42 (dk_at dksX7_advance_2 20 rfl rfl)
theorem dX7_advance_68 : decode cX7_advance 68 = .ok (.iconst 3, 1) := dk_6 (dk_at dksX7_advance_2 21 rfl rfl)
theorem dX7_advance_69 : decode cX7_advance 69 = .ok (.putfield 57, 3) := dk_181 0 57 (dk_at dksX7_advance_3 0 rfl rfl)
theorem dX7_advance_72 : decode cX7_advance 72 = .ok (.goto 198, 3) := dk_167 0 198 (dk_at dksX7_advance_3 3 rfl rfl)
theorem dX7_advance_75 : decode cX7_advance 75 = .ok (.iload_n 1, 1) := dk_27 (dk_at dksX7_advance_3 6 rfl rfl)
theorem dX7_advance_76 : decode cX7_advance 76 = .ok (.i2l, 1) := dk_133 (dk_at dksX7_advance_3 7 rfl rfl)
theorem dX7_advance_77 : decode cX7_advance 77 = .ok (.ldc2_w 60, 3) := dk_20 0 60 (dk_at dksX7_advance_3 8 rfl rfl)
theorem dX7_advance_80 : decode cX7_advance 80 = .ok (.ldc2_w 62, 3) := dk_20 0 62 (dk_at dksX7_advance_3 11 rfl rfl)
theorem dX7_advance_83 : decode cX7_advance 83 = .ok (.invokestatic 36, 3) := dk_184 0 36 (dk_at dksX7_advance_3 14 rfl rfl)
theorem dX7_advance_86 : decode cX7_advance 86 = .ok (.ifCond .eq 73, 3) := dk_153 0 73 (dk_at dksX7_advance_3 17 rfl rfl)
theorem dX7_advance_89 : decode cX7_advance 89 = .ok (.aload_n 0, 1) := dk_42 (dk_at dksX7_advance_3 20 rfl rfl)
theorem dX7_advance_90 : decode cX7_advance 90 = .ok (.aload_n 0, 1) := dk_42 (dk_at dksX7_advance_3 21 rfl rfl)
theorem dX7_advance_91 : decode cX7_advance 91 = .ok (.aload_n 0, 1) := dk_42 (dk_at dksX7_advance_3 22 rfl rfl)
theorem dX7_advance_92 : decode cX7_advance 92 = .ok (.getfield 54, 3) := dk_180 0 54 (dk_at dksX7_advance_4 0 rfl rfl)
theorem dX7_advance_95 : decode cX7_advance 95 = .ok (.bipush 97, 2) := dk_16 97 (dk_at dksX7_advance_4 3 rfl rfl)
theorem dX7_advance_97 : decode cX7_advance 97 = .ok (.bipush 122, 2) := dk_16 122 (dk_at dksX7_advance_4 5 rfl rfl)
theorem dX7_advance_99 : decode cX7_advance 99 = .ok (.invokevirtual 64, 3) := dk_182 0 64 (dk_at dksX7_advance_4 7 rfl rfl)
theorem dX7_advance_102 : decode cX7_advance 102 = .ok (.putfield 51, 3) := dk_181 0 51 (dk_at dksX7_advance_4 10 rfl rfl)
theorem dX7_advance_105 : decode cX7_advance 105 = .ok (.aload_n 0, 1) := dk_42 (dk_at dksX7_advance_4 13 rfl rfl)
theorem dX7_advance_106 : decode cX7_advance 106 = .ok (.aload_n 0, 1) := dk_42 (dk_at dksX7_advance_4 14 rfl rfl)
theorem dX7_advance_107 : decode cX7_advance 107 = .ok (.getfield 51, 3) := dk_180 0 51 (dk_at dksX7_advance_4 15 rfl rfl)
theorem dX7_advance_110 : decode cX7_advance 110 = .ok (.aload_n 0, 1) := dk_42 (dk_at dksX7_advance_4 18 rfl rfl)
theorem dX7_advance_111 : decode cX7_advance 111 = .ok (.getfield 54, 3) := dk_180 0 54 (dk_at dksX7_advance_4 19 rfl rfl)
theorem dX7_advance_114 : decode cX7_advance 114 = .ok (.isub, 1) := dk_100 (dk_at dksX7_advance_4 22 rfl rfl)
theorem dX7_advance_115 : decode cX7_advance 115 = .ok (.bipush 8, 2) := dk_16 8 (dk_at dksX7_advance_5 0 rfl rfl)
theorem dX7_advance_117 : decode cX7_advance 117 = .ok (.if_icmp .gt 7, 3) := dk_163 0 7 (dk_at dksX7_advance_5 2 rfl rfl)
theorem dX7_advance_120 : decode cX7_advance 120 = .ok (.iconst 0, 1) := dk_3 (dk_at dksX7_advance_5 5 rfl rfl)
theorem dX7_advance_121 : decode cX7_advance 121 = .ok (.goto 4, 3) := dk_167 0 4 (dk_at dksX7_advance_5 6 rfl rfl)
theorem dX7_advance_124 : decode cX7_advance 124 = .ok (.iconst 4, 1) := dk_7 (dk_at dksX7_advance_5 9 rfl rfl)
theorem dX7_advance_125 : decode cX7_advance 125 = .ok (.putfield 57, 3) := dk_181 0 57 (dk_at dksX7_advance_5 10 rfl rfl)
theorem dX7_advance_128 : decode cX7_advance 128 = .ok (.aload_n 0, 1) := dk_42 (dk_at dksX7_advance_5 13 rfl rfl)
theorem dX7_advance_129 : decode cX7_advance 129 = .ok (.aload_n 0, 1) := dk_42 (dk_at dksX7_advance_5 14 rfl rfl)
theorem dX7_advance_130 : decode cX7_advance 130 = .ok (.getfield 57, 3) := dk_180 0 57 (dk_at dksX7_advance_5 15 rfl rfl)
theorem dX7_advance_133 : decode cX7_advance 133 = .ok (.ifCond .ne 18, 3) := dk_154 0 18 (dk_at dksX7_advance_5 18 rfl rfl)
theorem dX7_advance_136 : decode cX7_advance 136 = .ok (.aload_n 0, 1) := dk_42 (dk_at dksX7_advance_5 21 rfl rfl)
theorem dX7_advance_137 : decode cX7_advance 137 = .ok (.aload_n 0, 1) := dk_42 (dk_at dksX7_advance_5 22 rfl rfl)
theorem dX7_advance_138 : decode cX7_advance 138 = .ok (.getfield 54, 3) := dk_180 0 54 (dk_at dksX7_advance_6 0 rfl rfl)
theorem dX7_advance_141 : decode cX7_advance 141 = .ok (.aload_n 0, 1) := dk_42 (dk_at dksX7_advance_6 3 rfl rfl)
theorem dX7_advance_142 : decode cX7_advance 142 = .ok (.getfield 51, 3) := dk_180 0 51 (dk_at dksX7_advance_6 4 rfl rfl)
theorem dX7_advance_145 : decode cX7_advance 145 = .ok (.invokevirtual 68, 3) := dk_182 0 68 (dk_at dksX7_advance_6 7 rfl rfl)
theorem dX7_advance_148 : decode cX7_advance 148 = .ok (.goto 5, 3) := dk_167 0 5 (dk_at dksX7_advance_6 10 rfl rfl)
theorem dX7_advance_151 : decode cX7_advance 151 = .ok (.ldc 15, 2) := dk_18 15 (dk_at dksX7_advance_6 13 rfl rfl)
theorem dX7_advance_153 : decode cX7_advance 153 = .ok (.putfield 17, 3) := dk_181 0 17 (dk_at dksX7_advance_6 15 rfl rfl)
theorem dX7_advance_156 : decode cX7_advance 156 = .ok (.goto 114, 3) := dk_167 0 114 (dk_at dksX7_advance_6 18 rfl rfl)
theorem dX7_advance_159 : decode cX7_advance 159 = .ok (.iload_n 1, 1) := dk_27 (dk_at dksX7_advance_6 21 rfl rfl)
theorem dX7_advance_160 : decode cX7_advance 160 = .ok (.i2l, 1) := dk_133 (dk_at dksX7_advance_6 22 rfl rfl)
theorem dX7_advance_161 : decode cX7_advance 161 = .ok (.ldc2_w 72, 3) := dk_20 0 72 (dk_at dksX7_advance_7 0 rfl rfl)
theorem dX7_advance_164 : decode cX7_advance 164 = .ok (.ldc2_w 74, 3) := dk_20 0 74 (dk_at dksX7_advance_7 3 rfl rfl)
theorem dX7_advance_167 : decode cX7_advance 167 = .ok (.invokestatic 36, 3) := dk_184 0 36 (dk_at dksX7_advance_7 6 rfl rfl)
theorem dX7_advance_170 : decode cX7_advance 170 = .ok (.ifCond .eq 75, 3) := dk_153 0 75 (dk_at dksX7_advance_7 9 rfl rfl)
theorem dX7_advance_173 : decode cX7_advance 173 = .ok (.aload_n 0, 1) := dk_42 (dk_at dksX7_advance_7 12 rfl rfl)
theorem dX7_advance_174 : decode cX7_advance 174 = .ok (.aload_n 0, 1) := dk_42 (dk_at dksX7_advance_7 13 rfl rfl)
theorem dX7_advance_175 : decode cX7_advance 175 = .ok (.aload_n 0, 1) := dk_42 (dk_at dksX7_advance_7 14 rfl rfl)
theorem dX7_advance_176 : decode cX7_advance 176 = .ok (.getfield 54, 3) := dk_180 0 54 (dk_at dksX7_advance_7 15 rfl rfl)
theorem dX7_advance_179 : decode cX7_advance 179 = .ok (.bipush 48, 2) := dk_16 48 (dk_at dksX7_advance_7 18 rfl rfl)
theorem dX7_advance_181 : decode cX7_advance 181 = .ok (.bipush 57, 2) := dk_16 57 (dk_at dksX7_advance_7 20 rfl rfl)
theorem dX7_advance_183 : decode cX7_advance 183 = .ok (.invokevirtual 64, 3) := dk_182 0 64 (dk_at dksX7_advance_8 0 rfl rfl)
theorem dX7_advance_186 : decode cX7_advance 186 = .ok (.putfield 51, 3) := dk_181 0 51 (dk_at dksX7_advance_8 3 rfl rfl)
theorem dX7_advance_189 : decode cX7_advance 189 = .ok (.aload_n 0, 1) := dk_42 (dk_at dksX7_advance_8 6 rfl rfl)
theorem dX7_advance_190 : decode cX7_advance 190 = .ok (.aload_n 0, 1) := dk_42 (dk_at dksX7_advance_8 7 rfl rfl)
theorem dX7_advance_191 : decode cX7_advance 191 = .ok (.getfield 51, 3) := dk_180 0 51 (dk_at dksX7_advance_8 8 rfl rfl)
theorem dX7_advance_194 : decode cX7_advance 194 = .ok (.aload_n 0, 1) := dk_42 (dk_at dksX7_advance_8 11 rfl rfl)
theorem dX7_advance_195 : decode cX7_advance 195 = .ok (.getfield 54, 3) := dk_180 0 54 (dk_at dksX7_advance_8 12 rfl rfl)
theorem dX7_advance_198 : decode cX7_advance 198 = .ok (.isub, 1) := dk_100 (dk_at dksX7_advance_8 15 rfl rfl)
theorem dX7_advance_199 : decode cX7_advance 199 = .ok (.iconst 3, 1) := dk_6 (dk_at dksX7_advance_8 16 rfl rfl)
theorem dX7_advance_200 : decode cX7_advance 200 = .ok (.if_icmp .gt 7, 3) := dk_163 0 7 (dk_at dksX7_advance_8 17 rfl rfl)
theorem dX7_advance_203 : decode cX7_advance 203 = .ok (.iconst 1, 1) := dk_4 (dk_at dksX7_advance_8 20 rfl rfl)
theorem dX7_advance_204 : decode cX7_advance 204 = .ok (.goto 4, 3) := dk_167 0 4 (dk_at dksX7_advance_8 21 rfl rfl)
theorem dX7_advance_207 : decode cX7_advance 207 = .ok (.iconst 4, 1) := dk_7 (dk_at dksX7_advance_9 0 rfl rfl)
theorem dX7_advance_208 : decode cX7_advance 208 = .ok (.putfield 57, 3) := dk_181 0 57 (dk_at dksX7_advance_9 1 rfl rfl)
theorem dX7_advance_211 : decode cX7_advance 211 = .ok (.aload_n 0, 1) := dk_42 (dk_at dksX7_advance_9 4 rfl rfl)
theorem dX7_advance_212 : decode cX7_advance 212 = .ok (.aload_n 0, 1) := dk_42 (dk_at dksX7_advance_9 5 rfl rfl)
theorem dX7_advance_213 : decode cX7_advance 213 = .ok (.getfield 57, 3) := dk_180 0 57 (dk_at dksX7_advance_9 6 rfl rfl)
theorem dX7_advance_216 : decode cX7_advance 216 = .ok (.iconst 1, 1) := dk_4 (dk_at dksX7_advance_9 9 rfl rfl)
theorem dX7_advance_217 : decode cX7_advance 217 = .ok (.if_icmp .ne 21, 3) := dk_160 0 21 (dk_at dksX7_advance_9 10 rfl rfl)
theorem dX7_advance_220 : decode cX7_advance 220 = .ok (.aload_n 0, 1) := dk_42 (dk_at dksX7_advance_9 13 rfl rfl)
theorem dX7_advance_221 : decode cX7_advance 221 = .ok (.aload_n 0, 1) := dk_42 (dk_at dksX7_advance_9 14 rfl rfl)
theorem dX7_advance_222 : decode cX7_advance 222 = .ok (.getfield 54, 3) := dk_180 0 54 (dk_at dksX7_advance_9 15 rfl rfl)
theorem dX7_advance_225 : decode cX7_advance 225 = .ok (.aload_n 0, 1) := dk_42 (dk_at dksX7_advance_9 18 rfl rfl)
theorem dX7_advance_226 : decode cX7_advance 226 = .ok (.getfield 51, 3) := dk_180 0 51 (dk_at dksX7_advance_9 19 rfl rfl)
theorem dX7_advance_229 : decode cX7_advance 229 = .ok (.invokevirtual 68, 3) := dk_182 0 68 (dk_at dksX7_advance_10 0 rfl rfl)
theorem dX7_advance_232 : decode cX7_advance 232 = .ok (.invokestatic 76, 3) := dk_184 0 76 (dk_at dksX7_advance_10 3 rfl rfl)
theorem dX7_advance_235 : decode cX7_advance 235 = .ok (.goto 4, 3) := dk_167 0 4 (dk_at dksX7_advance_10 6 rfl rfl)
theorem dX7_advance_238 : decode cX7_advance 238 = .ok (.iconst 0, 1) := dk_3 (dk_at dksX7_advance_10 9 rfl rfl)
theorem dX7_advance_239 : decode cX7_advance 239 = .ok (.putfield 82, 3) := dk_181 0 82 (dk_at dksX7_advance_10 10 rfl rfl)
theorem dX7_advance_242 : decode cX7_advance 242 = .ok (.goto 28, 3) := dk_167 0 28 (dk_at dksX7_advance_10 13 rfl rfl)
theorem dX7_advance_245 : decode cX7_advance 245 = .ok (.aload_n 0, 1) := dk_42 (dk_at dksX7_advance_10 16 rfl rfl)
theorem dX7_advance_246 : decode cX7_advance 246 = .ok (.iload_n 1, 1) := dk_27 (dk_at dksX7_advance_10 17 rfl rfl)
theorem dX7_advance_247 : decode cX7_advance 247 = .ok (.bipush 59, 2) := dk_16 59 (dk_at dksX7_advance_10 18 rfl rfl)
theorem dX7_advance_249 : decode cX7_advance 249 = .ok (.if_icmp .ne 7, 3) := dk_160 0 7 (dk_at dksX7_advance_10 20 rfl rfl)
theorem dX7_advance_252 : decode cX7_advance 252 = .ok (.iconst 2, 1) := dk_5 (dk_at dksX7_advance_10 23 rfl rfl)
theorem dX7_advance_253 : decode cX7_advance 253 = .ok (.goto 4, 3) := dk_167 0 4 (dk_at dksX7_advance_11 0 rfl rfl)
theorem dX7_advance_256 : decode cX7_advance 256 = .ok (.iconst 4, 1) := dk_7 (dk_at dksX7_advance_11 3 rfl rfl)
theorem dX7_advance_257 : decode cX7_advance 257 = .ok (.putfield 57, 3) := dk_181 0 57 (dk_at dksX7_advance_11 4 rfl rfl)
theorem dX7_advance_260 : decode cX7_advance 260 = .ok (.aload_n 0, 1) := dk_42 (dk_at dksX7_advance_11 7 rfl rfl)
theorem dX7_advance_261 : decode cX7_advance 261 = .ok (.dup, 1) := dk_89 (dk_at dksX7_advance_11 8 rfl rfl)
theorem dX7_advance_262 : decode cX7_advance 262 = .ok (.getfield 51, 3) := dk_180 0 51 (dk_at dksX7_advance_11 9 rfl rfl)
theorem dX7_advance_265 : decode cX7_advance 265 = .ok (.iconst 1, 1) := dk_4 (dk_at dksX7_advance_11 12 rfl rfl)
theorem dX7_advance_266 : decode cX7_advance 266 = .ok (.iadd, 1) := dk_96 (dk_at dksX7_advance_11 13 rfl rfl)
theorem dX7_advance_267 : decode cX7_advance 267 = .ok (.putfield 51, 3) := dk_181 0 51 (dk_at dksX7_advance_11 14 rfl rfl)
theorem dX7_advance_270 : decode cX7_advance 270 = .ok (.return_, 1) := dk_177 (dk_at dksX7_advance_11 17 rfl rfl)
abbrev cX7_at : ByteArray := prog_10_method_2_code
def yX7_at : MethodName := ⟨RX7, "at", "(I)I"⟩
def dkwX7_at_1 : List UInt8 := [167, 0, 4, 2, 172]
abbrev dktX7_at_1 : List UInt8 := dkwX7_at_1 ++ []
def dkwX7_at_0 : List UInt8 := [27, 42, 180, 0, 3, 180, 0, 24, 162, 0, 19, 42, 180, 0, 3, 180, 0, 28, 27, 51, 17, 0, 255, 126]
abbrev dktX7_at_0 : List UInt8 := dkwX7_at_0 ++ dktX7_at_1
theorem dksX7_at_0 : cX7_at.data.toList.drop 0 = dktX7_at_0 := by decide +kernel
theorem dksX7_at_1 : cX7_at.data.toList.drop 24 = dktX7_at_1 := dk_seg dksX7_at_0 24 rfl rfl
theorem dX7_at_0 : decode cX7_at 0 = .ok (.iload_n 1, 1) := dk_27 (dk_at dksX7_at_0 0 rfl rfl)
theorem dX7_at_1 : decode cX7_at 1 = .ok (.aload_n 0, 1) := dk_42 (dk_at dksX7_at_0 1 rfl rfl)
theorem dX7_at_2 : decode cX7_at 2 = .ok (.getfield 3, 3) := dk_180 0 3 (dk_at dksX7_at_0 2 rfl rfl)
theorem dX7_at_5 : decode cX7_at 5 = .ok (.getfield 24, 3) := dk_180 0 24 (dk_at dksX7_at_0 5 rfl rfl)
theorem dX7_at_8 : decode cX7_at 8 = .ok (.if_icmp .ge 19, 3) := dk_162 0 19 (dk_at dksX7_at_0 8 rfl rfl)
theorem dX7_at_11 : decode cX7_at 11 = .ok (.aload_n 0, 1) := dk_42 (dk_at dksX7_at_0 11 rfl rfl)
theorem dX7_at_12 : decode cX7_at 12 = .ok (.getfield 3, 3) := dk_180 0 3 (dk_at dksX7_at_0 12 rfl rfl)
theorem dX7_at_15 : decode cX7_at 15 = .ok (.getfield 28, 3) := dk_180 0 28 (dk_at dksX7_at_0 15 rfl rfl)
theorem dX7_at_18 : decode cX7_at 18 = .ok (.iload_n 1, 1) := dk_27 (dk_at dksX7_at_0 18 rfl rfl)
theorem dX7_at_19 : decode cX7_at 19 = .ok (.baload, 1) := dk_51 (dk_at dksX7_at_0 19 rfl rfl)
theorem dX7_at_20 : decode cX7_at 20 = .ok (.sipush 255, 3) := dk_17 0 255 (dk_at dksX7_at_0 20 rfl rfl)
theorem dX7_at_23 : decode cX7_at 23 = .ok (.iand, 1) := dk_126 (dk_at dksX7_at_0 23 rfl rfl)
theorem dX7_at_24 : decode cX7_at 24 = .ok (.goto 4, 3) := dk_167 0 4 (dk_at dksX7_at_1 0 rfl rfl)
theorem dX7_at_27 : decode cX7_at 27 = .ok (.iconst (-1), 1) := dk_2 (dk_at dksX7_at_1 3 rfl rfl)
theorem dX7_at_28 : decode cX7_at 28 = .ok (.ireturn, 1) := dk_172 (dk_at dksX7_at_1 4 rfl rfl)
abbrev cX7_past : ByteArray := prog_10_method_3_code
def yX7_past : MethodName := ⟨RX7, "past", "(III)I"⟩
def dkwX7_past_1 : List UInt8 := [167, 255, 236, 21, 4, 172]
abbrev dktX7_past_1 : List UInt8 := dkwX7_past_1 ++ []
def dkwX7_past_0 : List UInt8 := [27, 54, 4, 42, 21, 4, 182, 0, 32, 133, 28, 133, 29, 133, 184, 0, 36, 153, 0, 9, 132, 4, 1]
abbrev dktX7_past_0 : List UInt8 := dkwX7_past_0 ++ dktX7_past_1
theorem dksX7_past_0 : cX7_past.data.toList.drop 0 = dktX7_past_0 := by decide +kernel
theorem dksX7_past_1 : cX7_past.data.toList.drop 23 = dktX7_past_1 := dk_seg dksX7_past_0 23 rfl rfl
theorem dX7_past_0 : decode cX7_past 0 = .ok (.iload_n 1, 1) := dk_27 (dk_at dksX7_past_0 0 rfl rfl)
theorem dX7_past_1 : decode cX7_past 1 = .ok (.istore 4, 2) := dk_54 4 (dk_at dksX7_past_0 1 rfl rfl)
theorem dX7_past_3 : decode cX7_past 3 = .ok (.aload_n 0, 1) := dk_42 (dk_at dksX7_past_0 3 rfl rfl)
theorem dX7_past_4 : decode cX7_past 4 = .ok (.iload 4, 2) := dk_21 4 (dk_at dksX7_past_0 4 rfl rfl)
theorem dX7_past_6 : decode cX7_past 6 = .ok (.invokevirtual 32, 3) := dk_182 0 32 (dk_at dksX7_past_0 6 rfl rfl)
theorem dX7_past_9 : decode cX7_past 9 = .ok (.i2l, 1) := dk_133 (dk_at dksX7_past_0 9 rfl rfl)
theorem dX7_past_10 : decode cX7_past 10 = .ok (.iload_n 2, 1) := dk_28 (dk_at dksX7_past_0 10 rfl rfl)
theorem dX7_past_11 : decode cX7_past 11 = .ok (.i2l, 1) := dk_133 (dk_at dksX7_past_0 11 rfl rfl)
theorem dX7_past_12 : decode cX7_past 12 = .ok (.iload_n 3, 1) := dk_29 (dk_at dksX7_past_0 12 rfl rfl)
theorem dX7_past_13 : decode cX7_past 13 = .ok (.i2l, 1) := dk_133 (dk_at dksX7_past_0 13 rfl rfl)
theorem dX7_past_14 : decode cX7_past 14 = .ok (.invokestatic 36, 3) := dk_184 0 36 (dk_at dksX7_past_0 14 rfl rfl)
theorem dX7_past_17 : decode cX7_past 17 = .ok (.ifCond .eq 9, 3) := dk_153 0 9 (dk_at dksX7_past_0 17 rfl rfl)
theorem dX7_past_20 : decode cX7_past 20 = .ok (.iinc 4 1, 3) := dk_132 4 1 (dk_at dksX7_past_0 20 rfl rfl)
theorem dX7_past_23 : decode cX7_past 23 = .ok (.goto (-20), 3) := dk_167 255 236 (dk_at dksX7_past_1 0 rfl rfl)
theorem dX7_past_26 : decode cX7_past 26 = .ok (.iload 4, 2) := dk_21 4 (dk_at dksX7_past_1 3 rfl rfl)
theorem dX7_past_28 : decode cX7_past 28 = .ok (.ireturn, 1) := dk_172 (dk_at dksX7_past_1 5 rfl rfl)
abbrev cX7_text : ByteArray := prog_10_method_4_code
def yX7_text : MethodName := ⟨RX7, "text", "(II)Ljava/lang/String;"⟩
def dkwX7_text_1 : List UInt8 := [146, 182, 0, 43, 87, 132, 4, 1, 167, 255, 235, 45, 182, 0, 47, 176]
abbrev dktX7_text_1 : List UInt8 := dkwX7_text_1 ++ []
def dkwX7_text_0 : List UInt8 := [187, 0, 40, 89, 183, 0, 42, 78, 27, 54, 4, 21, 4, 28, 162, 0, 21, 45, 42, 21, 4, 182, 0, 32]
abbrev dktX7_text_0 : List UInt8 := dkwX7_text_0 ++ dktX7_text_1
theorem dksX7_text_0 : cX7_text.data.toList.drop 0 = dktX7_text_0 := by decide +kernel
theorem dksX7_text_1 : cX7_text.data.toList.drop 24 = dktX7_text_1 := dk_seg dksX7_text_0 24 rfl rfl
theorem dX7_text_0 : decode cX7_text 0 = .ok (.new 40, 3) := dk_187 0 40 (dk_at dksX7_text_0 0 rfl rfl)
theorem dX7_text_3 : decode cX7_text 3 = .ok (.dup, 1) := dk_89 (dk_at dksX7_text_0 3 rfl rfl)
theorem dX7_text_4 : decode cX7_text 4 = .ok (.invokespecial 42, 3) := dk_183 0 42 (dk_at dksX7_text_0 4 rfl rfl)
theorem dX7_text_7 : decode cX7_text 7 = .ok (.astore_n 3, 1) := dk_78 (dk_at dksX7_text_0 7 rfl rfl)
theorem dX7_text_8 : decode cX7_text 8 = .ok (.iload_n 1, 1) := dk_27 (dk_at dksX7_text_0 8 rfl rfl)
theorem dX7_text_9 : decode cX7_text 9 = .ok (.istore 4, 2) := dk_54 4 (dk_at dksX7_text_0 9 rfl rfl)
theorem dX7_text_11 : decode cX7_text 11 = .ok (.iload 4, 2) := dk_21 4 (dk_at dksX7_text_0 11 rfl rfl)
theorem dX7_text_13 : decode cX7_text 13 = .ok (.iload_n 2, 1) := dk_28 (dk_at dksX7_text_0 13 rfl rfl)
theorem dX7_text_14 : decode cX7_text 14 = .ok (.if_icmp .ge 21, 3) := dk_162 0 21 (dk_at dksX7_text_0 14 rfl rfl)
theorem dX7_text_17 : decode cX7_text 17 = .ok (.aload_n 3, 1) := dk_45 (dk_at dksX7_text_0 17 rfl rfl)
theorem dX7_text_18 : decode cX7_text 18 = .ok (.aload_n 0, 1) := dk_42 (dk_at dksX7_text_0 18 rfl rfl)
theorem dX7_text_19 : decode cX7_text 19 = .ok (.iload 4, 2) := dk_21 4 (dk_at dksX7_text_0 19 rfl rfl)
theorem dX7_text_21 : decode cX7_text 21 = .ok (.invokevirtual 32, 3) := dk_182 0 32 (dk_at dksX7_text_0 21 rfl rfl)
theorem dX7_text_24 : decode cX7_text 24 = .ok (.i2c, 1) := dk_146 (dk_at dksX7_text_1 0 rfl rfl)
theorem dX7_text_25 : decode cX7_text 25 = .ok (.invokevirtual 43, 3) := dk_182 0 43 (dk_at dksX7_text_1 1 rfl rfl)
theorem dX7_text_28 : decode cX7_text 28 = .ok (.pop, 1) := dk_87 (dk_at dksX7_text_1 4 rfl rfl)
theorem dX7_text_29 : decode cX7_text 29 = .ok (.iinc 4 1, 3) := dk_132 4 1 (dk_at dksX7_text_1 5 rfl rfl)
theorem dX7_text_32 : decode cX7_text 32 = .ok (.goto (-21), 3) := dk_167 255 235 (dk_at dksX7_text_1 8 rfl rfl)
theorem dX7_text_35 : decode cX7_text 35 = .ok (.aload_n 3, 1) := dk_45 (dk_at dksX7_text_1 11 rfl rfl)
theorem dX7_text_36 : decode cX7_text 36 = .ok (.invokevirtual 47, 3) := dk_182 0 47 (dk_at dksX7_text_1 12 rfl rfl)
theorem dX7_text_39 : decode cX7_text 39 = .ok (.areturn, 1) := dk_176 (dk_at dksX7_text_1 15 rfl rfl)
abbrev cX7_word : ByteArray := prog_10_method_8_code
def yX7_word : MethodName := ⟨RX7, "word", "()Ljava/lang/String;"⟩
theorem dX7_word_0 : decode cX7_word 0 = .ok (.aload_n 0, 1) := by decide +kernel
theorem dX7_word_1 : decode cX7_word 1 = .ok (.getfield 17, 3) := by decide +kernel
theorem dX7_word_4 : decode cX7_word 4 = .ok (.areturn, 1) := by decide +kernel
abbrev cX7_expect : ByteArray := prog_10_method_6_code
def yX7_expect : MethodName := ⟨RX7, "expect", "(ZI)V"⟩
def dkwX7_expect_0 : List UInt8 := [27, 154, 0, 16, 187, 0, 85, 89, 28, 42, 180, 0, 54, 183, 0, 87, 191, 177]
abbrev dktX7_expect_0 : List UInt8 := dkwX7_expect_0 ++ []
theorem dksX7_expect_0 : cX7_expect.data.toList.drop 0 = dktX7_expect_0 := by decide +kernel
theorem dX7_expect_0 : decode cX7_expect 0 = .ok (.iload_n 1, 1) := dk_27 (dk_at dksX7_expect_0 0 rfl rfl)
theorem dX7_expect_1 : decode cX7_expect 1 = .ok (.ifCond .ne 16, 3) := dk_154 0 16 (dk_at dksX7_expect_0 1 rfl rfl)
theorem dX7_expect_4 : decode cX7_expect 4 = .ok (.new 85, 3) := dk_187 0 85 (dk_at dksX7_expect_0 4 rfl rfl)
theorem dX7_expect_7 : decode cX7_expect 7 = .ok (.dup, 1) := dk_89 (dk_at dksX7_expect_0 7 rfl rfl)
theorem dX7_expect_8 : decode cX7_expect 8 = .ok (.iload_n 2, 1) := dk_28 (dk_at dksX7_expect_0 8 rfl rfl)
theorem dX7_expect_9 : decode cX7_expect 9 = .ok (.aload_n 0, 1) := dk_42 (dk_at dksX7_expect_0 9 rfl rfl)
theorem dX7_expect_10 : decode cX7_expect 10 = .ok (.getfield 54, 3) := dk_180 0 54 (dk_at dksX7_expect_0 10 rfl rfl)
theorem dX7_expect_13 : decode cX7_expect 13 = .ok (.invokespecial 87, 3) := dk_183 0 87 (dk_at dksX7_expect_0 13 rfl rfl)
theorem dX7_expect_16 : decode cX7_expect 16 = .ok (.athrow, 1) := dk_191 (dk_at dksX7_expect_0 16 rfl rfl)
theorem dX7_expect_17 : decode cX7_expect 17 = .ok (.return_, 1) := dk_177 (dk_at dksX7_expect_0 17 rfl rfl)
abbrev cX7_number : ByteArray := prog_10_method_10_code
def yX7_number : MethodName := ⟨RX7, "number", "(II)I"⟩
def dkwX7_number_0 : List UInt8 := [42, 27, 28, 182, 0, 94, 62, 42, 182, 0, 21, 29, 172]
abbrev dktX7_number_0 : List UInt8 := dkwX7_number_0 ++ []
theorem dksX7_number_0 : cX7_number.data.toList.drop 0 = dktX7_number_0 := by decide +kernel
theorem dX7_number_0 : decode cX7_number 0 = .ok (.aload_n 0, 1) := dk_42 (dk_at dksX7_number_0 0 rfl rfl)
theorem dX7_number_1 : decode cX7_number 1 = .ok (.iload_n 1, 1) := dk_27 (dk_at dksX7_number_0 1 rfl rfl)
theorem dX7_number_2 : decode cX7_number 2 = .ok (.iload_n 2, 1) := dk_28 (dk_at dksX7_number_0 2 rfl rfl)
theorem dX7_number_3 : decode cX7_number 3 = .ok (.invokevirtual 94, 3) := dk_182 0 94 (dk_at dksX7_number_0 3 rfl rfl)
theorem dX7_number_6 : decode cX7_number 6 = .ok (.istore_n 3, 1) := dk_62 (dk_at dksX7_number_0 6 rfl rfl)
theorem dX7_number_7 : decode cX7_number 7 = .ok (.aload_n 0, 1) := dk_42 (dk_at dksX7_number_0 7 rfl rfl)
theorem dX7_number_8 : decode cX7_number 8 = .ok (.invokevirtual 21, 3) := dk_182 0 21 (dk_at dksX7_number_0 8 rfl rfl)
theorem dX7_number_11 : decode cX7_number 11 = .ok (.iload_n 3, 1) := dk_29 (dk_at dksX7_number_0 11 rfl rfl)
theorem dX7_number_12 : decode cX7_number 12 = .ok (.ireturn, 1) := dk_172 (dk_at dksX7_number_0 12 rfl rfl)
abbrev cX7_numberHere : ByteArray := prog_10_method_9_code
def yX7_numberHere : MethodName := ⟨RX7, "numberHere", "(II)I"⟩
def dkwX7_numberHere_1 : List UInt8 := [27, 133, 28, 133, 184, 0, 36, 5, 182, 0, 90, 42, 180, 0, 82, 172]
abbrev dktX7_numberHere_1 : List UInt8 := dkwX7_numberHere_1 ++ []
def dkwX7_numberHere_0 : List UInt8 := [42, 42, 180, 0, 57, 4, 160, 0, 7, 4, 167, 0, 4, 3, 4, 182, 0, 90, 42, 42, 180, 0, 82, 133]
abbrev dktX7_numberHere_0 : List UInt8 := dkwX7_numberHere_0 ++ dktX7_numberHere_1
theorem dksX7_numberHere_0 : cX7_numberHere.data.toList.drop 0 = dktX7_numberHere_0 := by decide +kernel
theorem dksX7_numberHere_1 : cX7_numberHere.data.toList.drop 24 = dktX7_numberHere_1 := dk_seg dksX7_numberHere_0 24 rfl rfl
theorem dX7_numberHere_0 : decode cX7_numberHere 0 = .ok (.aload_n 0, 1) := dk_42 (dk_at dksX7_numberHere_0 0 rfl rfl)
theorem dX7_numberHere_1 : decode cX7_numberHere 1 = .ok (.aload_n 0, 1) := dk_42 (dk_at dksX7_numberHere_0 1 rfl rfl)
theorem dX7_numberHere_2 : decode cX7_numberHere 2 = .ok (.getfield 57, 3) := dk_180 0 57 (dk_at dksX7_numberHere_0 2 rfl rfl)
theorem dX7_numberHere_5 : decode cX7_numberHere 5 = .ok (.iconst 1, 1) := dk_4 (dk_at dksX7_numberHere_0 5 rfl rfl)
theorem dX7_numberHere_6 : decode cX7_numberHere 6 = .ok (.if_icmp .ne 7, 3) := dk_160 0 7 (dk_at dksX7_numberHere_0 6 rfl rfl)
theorem dX7_numberHere_9 : decode cX7_numberHere 9 = .ok (.iconst 1, 1) := dk_4 (dk_at dksX7_numberHere_0 9 rfl rfl)
theorem dX7_numberHere_10 : decode cX7_numberHere 10 = .ok (.goto 4, 3) := dk_167 0 4 (dk_at dksX7_numberHere_0 10 rfl rfl)
theorem dX7_numberHere_13 : decode cX7_numberHere 13 = .ok (.iconst 0, 1) := dk_3 (dk_at dksX7_numberHere_0 13 rfl rfl)
theorem dX7_numberHere_14 : decode cX7_numberHere 14 = .ok (.iconst 1, 1) := dk_4 (dk_at dksX7_numberHere_0 14 rfl rfl)
theorem dX7_numberHere_15 : decode cX7_numberHere 15 = .ok (.invokevirtual 90, 3) := dk_182 0 90 (dk_at dksX7_numberHere_0 15 rfl rfl)
theorem dX7_numberHere_18 : decode cX7_numberHere 18 = .ok (.aload_n 0, 1) := dk_42 (dk_at dksX7_numberHere_0 18 rfl rfl)
theorem dX7_numberHere_19 : decode cX7_numberHere 19 = .ok (.aload_n 0, 1) := dk_42 (dk_at dksX7_numberHere_0 19 rfl rfl)
theorem dX7_numberHere_20 : decode cX7_numberHere 20 = .ok (.getfield 82, 3) := dk_180 0 82 (dk_at dksX7_numberHere_0 20 rfl rfl)
theorem dX7_numberHere_23 : decode cX7_numberHere 23 = .ok (.i2l, 1) := dk_133 (dk_at dksX7_numberHere_0 23 rfl rfl)
theorem dX7_numberHere_24 : decode cX7_numberHere 24 = .ok (.iload_n 1, 1) := dk_27 (dk_at dksX7_numberHere_1 0 rfl rfl)
theorem dX7_numberHere_25 : decode cX7_numberHere 25 = .ok (.i2l, 1) := dk_133 (dk_at dksX7_numberHere_1 1 rfl rfl)
theorem dX7_numberHere_26 : decode cX7_numberHere 26 = .ok (.iload_n 2, 1) := dk_28 (dk_at dksX7_numberHere_1 2 rfl rfl)
theorem dX7_numberHere_27 : decode cX7_numberHere 27 = .ok (.i2l, 1) := dk_133 (dk_at dksX7_numberHere_1 3 rfl rfl)
theorem dX7_numberHere_28 : decode cX7_numberHere 28 = .ok (.invokestatic 36, 3) := dk_184 0 36 (dk_at dksX7_numberHere_1 4 rfl rfl)
theorem dX7_numberHere_31 : decode cX7_numberHere 31 = .ok (.iconst 2, 1) := dk_5 (dk_at dksX7_numberHere_1 7 rfl rfl)
theorem dX7_numberHere_32 : decode cX7_numberHere 32 = .ok (.invokevirtual 90, 3) := dk_182 0 90 (dk_at dksX7_numberHere_1 8 rfl rfl)
theorem dX7_numberHere_35 : decode cX7_numberHere 35 = .ok (.aload_n 0, 1) := dk_42 (dk_at dksX7_numberHere_1 11 rfl rfl)
theorem dX7_numberHere_36 : decode cX7_numberHere 36 = .ok (.getfield 82, 3) := dk_180 0 82 (dk_at dksX7_numberHere_1 12 rfl rfl)
theorem dX7_numberHere_39 : decode cX7_numberHere 39 = .ok (.ireturn, 1) := dk_172 (dk_at dksX7_numberHere_1 15 rfl rfl)
abbrev cX7_end : ByteArray := prog_10_method_11_code
def yX7_end : MethodName := ⟨RX7, "end", "()V"⟩
def dkwX7_end_0 : List UInt8 := [42, 42, 180, 0, 57, 5, 160, 0, 7, 4, 167, 0, 4, 3, 4, 182, 0, 90, 42, 182, 0, 21, 177]
abbrev dktX7_end_0 : List UInt8 := dkwX7_end_0 ++ []
theorem dksX7_end_0 : cX7_end.data.toList.drop 0 = dktX7_end_0 := by decide +kernel
theorem dX7_end_0 : decode cX7_end 0 = .ok (.aload_n 0, 1) := dk_42 (dk_at dksX7_end_0 0 rfl rfl)
theorem dX7_end_1 : decode cX7_end 1 = .ok (.aload_n 0, 1) := dk_42 (dk_at dksX7_end_0 1 rfl rfl)
theorem dX7_end_2 : decode cX7_end 2 = .ok (.getfield 57, 3) := dk_180 0 57 (dk_at dksX7_end_0 2 rfl rfl)
theorem dX7_end_5 : decode cX7_end 5 = .ok (.iconst 2, 1) := dk_5 (dk_at dksX7_end_0 5 rfl rfl)
theorem dX7_end_6 : decode cX7_end 6 = .ok (.if_icmp .ne 7, 3) := dk_160 0 7 (dk_at dksX7_end_0 6 rfl rfl)
theorem dX7_end_9 : decode cX7_end 9 = .ok (.iconst 1, 1) := dk_4 (dk_at dksX7_end_0 9 rfl rfl)
theorem dX7_end_10 : decode cX7_end 10 = .ok (.goto 4, 3) := dk_167 0 4 (dk_at dksX7_end_0 10 rfl rfl)
theorem dX7_end_13 : decode cX7_end 13 = .ok (.iconst 0, 1) := dk_3 (dk_at dksX7_end_0 13 rfl rfl)
theorem dX7_end_14 : decode cX7_end 14 = .ok (.iconst 1, 1) := dk_4 (dk_at dksX7_end_0 14 rfl rfl)
theorem dX7_end_15 : decode cX7_end 15 = .ok (.invokevirtual 90, 3) := dk_182 0 90 (dk_at dksX7_end_0 15 rfl rfl)
theorem dX7_end_18 : decode cX7_end 18 = .ok (.aload_n 0, 1) := dk_42 (dk_at dksX7_end_0 18 rfl rfl)
theorem dX7_end_19 : decode cX7_end 19 = .ok (.invokevirtual 21, 3) := dk_182 0 21 (dk_at dksX7_end_0 19 rfl rfl)
theorem dX7_end_22 : decode cX7_end 22 = .ok (.return_, 1) := dk_177 (dk_at dksX7_end_0 22 rfl rfl)
abbrev cX7_isOver : ByteArray := prog_10_method_7_code
def yX7_isOver : MethodName := ⟨RX7, "isOver", "()Z"⟩
def dkwX7_isOver_0 : List UInt8 := [42, 180, 0, 57, 6, 160, 0, 7, 4, 167, 0, 4, 3, 172]
abbrev dktX7_isOver_0 : List UInt8 := dkwX7_isOver_0 ++ []
theorem dksX7_isOver_0 : cX7_isOver.data.toList.drop 0 = dktX7_isOver_0 := by decide +kernel
theorem dX7_isOver_0 : decode cX7_isOver 0 = .ok (.aload_n 0, 1) := dk_42 (dk_at dksX7_isOver_0 0 rfl rfl)
theorem dX7_isOver_1 : decode cX7_isOver 1 = .ok (.getfield 57, 3) := dk_180 0 57 (dk_at dksX7_isOver_0 1 rfl rfl)
theorem dX7_isOver_4 : decode cX7_isOver 4 = .ok (.iconst 3, 1) := dk_6 (dk_at dksX7_isOver_0 4 rfl rfl)
theorem dX7_isOver_5 : decode cX7_isOver 5 = .ok (.if_icmp .ne 7, 3) := dk_160 0 7 (dk_at dksX7_isOver_0 5 rfl rfl)
theorem dX7_isOver_8 : decode cX7_isOver 8 = .ok (.iconst 1, 1) := dk_4 (dk_at dksX7_isOver_0 8 rfl rfl)
theorem dX7_isOver_9 : decode cX7_isOver 9 = .ok (.goto 4, 3) := dk_167 0 4 (dk_at dksX7_isOver_0 9 rfl rfl)
theorem dX7_isOver_12 : decode cX7_isOver 12 = .ok (.iconst 0, 1) := dk_3 (dk_at dksX7_isOver_0 12 rfl rfl)
theorem dX7_isOver_13 : decode cX7_isOver 13 = .ok (.ireturn, 1) := dk_172 (dk_at dksX7_isOver_0 13 rfl rfl)
theorem q175 : (Jvm.Cond.initialized "SortingLoop$Parser") ∈ lw_all := lw_g (lw_at lw_m1 38 rfl) rfl
theorem q1322 : (Jvm.Cond.fieldLinkNest "SortingLoop$Parser" (28 : Nat) "SortingLoop" "input" "[B" "SortingLoop") ∈ lw_tbl := lw_at lw_m5 225 rfl
theorem q1324 : (Jvm.Cond.fieldLinkNest "SortingLoop$Parser" (24 : Nat) "SortingLoop" "inputLength" "I" "SortingLoop") ∈ lw_tbl := lw_at lw_m5 227 rfl
theorem q1383 : (Jvm.Cond.instanceMethod ({ cls := "SortingLoop$Parser", name := "<init>", desc := "(LSortingLoop;)V" } : Jvm.MethodName)) ∈ lw_all := lw_g (lw_at lw_m6 46 rfl) rfl
theorem q1384 : (Jvm.Cond.code ({ cls := "SortingLoop$Parser", name := "<init>", desc := "(LSortingLoop;)V" } : Jvm.MethodName) prog_10_method_1_code (2 : Nat) (Option.none : Option Jvm.ClassFile.FieldType)) ∈ lw_all := lw_g (lw_at lw_m6 47 rfl) rfl
theorem q1385 : (Jvm.Cond.methodLink "SortingLoop$Parser" (9 : Nat) ({ cls := "java/lang/Object", name := "<init>", desc := "()V" } : Jvm.MethodName)) ∈ lw_all := lw_g (lw_at lw_m6 48 rfl) rfl
theorem q1386 : (Jvm.Cond.stringRef "SortingLoop$Parser" (15 : Nat) "") ∈ lw_tbl := lw_at lw_m6 49 rfl
theorem q1387 : (Jvm.Cond.methodLink "SortingLoop$Parser" (21 : Nat) ({ cls := "SortingLoop$Parser", name := "advance", desc := "()V" } : Jvm.MethodName)) ∈ lw_all := lw_g (lw_at lw_m6 50 rfl) rfl
theorem q1388 : (Jvm.Cond.instanceMethod ({ cls := "SortingLoop$Parser", name := "advance", desc := "()V" } : Jvm.MethodName)) ∈ lw_all := lw_g (lw_at lw_m6 51 rfl) rfl
theorem q1389 : (Jvm.Cond.sameMethod "SortingLoop$Parser" "SortingLoop$Parser" "advance" "()V") ∈ lw_all := lw_g (lw_at lw_m6 52 rfl) rfl
theorem q1392 : (Jvm.Cond.code ({ cls := "SortingLoop$Parser", name := "advance", desc := "()V" } : Jvm.MethodName) prog_10_method_5_code (2 : Nat) (Option.none : Option Jvm.ClassFile.FieldType)) ∈ lw_all := lw_g (lw_at lw_m6 55 rfl) rfl
theorem q1393 : (Jvm.Cond.methodLink "SortingLoop$Parser" (32 : Nat) ({ cls := "SortingLoop$Parser", name := "at", desc := "(I)I" } : Jvm.MethodName)) ∈ lw_all := lw_g (lw_at lw_m6 56 rfl) rfl
theorem q1394 : (Jvm.Cond.privateMethod ({ cls := "SortingLoop$Parser", name := "at", desc := "(I)I" } : Jvm.MethodName)) ∈ lw_tbl := lw_at lw_m6 57 rfl
theorem q1395 : (Jvm.Cond.instanceMethod ({ cls := "SortingLoop$Parser", name := "at", desc := "(I)I" } : Jvm.MethodName)) ∈ lw_all := lw_g (lw_at lw_m6 58 rfl) rfl
theorem q1396 : (Jvm.Cond.instantiable "SortingLoop$Parser" (6 : Nat)) ∈ lw_all := lw_g (lw_at lw_m6 59 rfl) rfl
theorem q1397 : (Jvm.Cond.code ({ cls := "SortingLoop$Parser", name := "at", desc := "(I)I" } : Jvm.MethodName) prog_10_method_2_code (2 : Nat) (Option.some Jvm.ClassFile.FieldType.int)) ∈ lw_all := lw_g (lw_at lw_m6 60 rfl) rfl
theorem q1398 : (Jvm.Cond.constantLong "SortingLoop$Parser" (60 : Nat) (97 : Int64)) ∈ lw_all := lw_g (lw_at lw_m6 61 rfl) rfl
theorem q1399 : (Jvm.Cond.constantLong "SortingLoop$Parser" (62 : Nat) (122 : Int64)) ∈ lw_all := lw_g (lw_at lw_m6 62 rfl) rfl
theorem q1400 : (Jvm.Cond.methodLinkNest "SortingLoop$Parser" (36 : Nat) ({ cls := "SortingLoop", name := "isIn", desc := "(JJJ)Z" } : Jvm.MethodName) "SortingLoop") ∈ lw_tbl := lw_at lw_m6 63 rfl
theorem q1401 : (Jvm.Cond.methodLink "SortingLoop$Parser" (64 : Nat) ({ cls := "SortingLoop$Parser", name := "past", desc := "(III)I" } : Jvm.MethodName)) ∈ lw_all := lw_g (lw_at lw_m6 64 rfl) rfl
theorem q1402 : (Jvm.Cond.privateMethod ({ cls := "SortingLoop$Parser", name := "past", desc := "(III)I" } : Jvm.MethodName)) ∈ lw_tbl := lw_at lw_m6 65 rfl
theorem q1403 : (Jvm.Cond.instanceMethod ({ cls := "SortingLoop$Parser", name := "past", desc := "(III)I" } : Jvm.MethodName)) ∈ lw_all := lw_g (lw_at lw_m6 66 rfl) rfl
theorem q1404 : (Jvm.Cond.code ({ cls := "SortingLoop$Parser", name := "past", desc := "(III)I" } : Jvm.MethodName) prog_10_method_3_code (5 : Nat) (Option.some Jvm.ClassFile.FieldType.int)) ∈ lw_all := lw_g (lw_at lw_m6 67 rfl) rfl
theorem q1405 : (Jvm.Cond.methodLink "SortingLoop$Parser" (68 : Nat) ({ cls := "SortingLoop$Parser", name := "text", desc := "(II)Ljava/lang/String;" } : Jvm.MethodName)) ∈ lw_all := lw_g (lw_at lw_m6 68 rfl) rfl
theorem q1406 : (Jvm.Cond.privateMethod ({ cls := "SortingLoop$Parser", name := "text", desc := "(II)Ljava/lang/String;" } : Jvm.MethodName)) ∈ lw_tbl := lw_at lw_m6 69 rfl
theorem q1407 : (Jvm.Cond.instanceMethod ({ cls := "SortingLoop$Parser", name := "text", desc := "(II)Ljava/lang/String;" } : Jvm.MethodName)) ∈ lw_all := lw_g (lw_at lw_m6 70 rfl) rfl
theorem q1408 : (Jvm.Cond.code ({ cls := "SortingLoop$Parser", name := "text", desc := "(II)Ljava/lang/String;" } : Jvm.MethodName) prog_10_method_4_code (5 : Nat) (Option.some (Jvm.ClassFile.FieldType.object "java/lang/String"))) ∈ lw_all := lw_g (lw_at lw_m6 71 rfl) rfl
theorem q1409 : (Jvm.Cond.classLink "SortingLoop$Parser" (40 : Nat) "java/lang/StringBuilder") ∈ lw_all := lw_g (lw_at lw_m6 72 rfl) rfl
theorem q1410 : (Jvm.Cond.methodLink "SortingLoop$Parser" (42 : Nat) ({ cls := "java/lang/StringBuilder", name := "<init>", desc := "()V" } : Jvm.MethodName)) ∈ lw_all := lw_g (lw_at lw_m6 73 rfl) rfl
theorem q1411 : (Jvm.Cond.methodLink "SortingLoop$Parser" (43 : Nat) ({ cls := "java/lang/StringBuilder", name := "append", desc := "(C)Ljava/lang/StringBuilder;" } : Jvm.MethodName)) ∈ lw_all := lw_g (lw_at lw_m6 74 rfl) rfl
theorem q1431 : (Jvm.Cond.methodLink "SortingLoop$Parser" (47 : Nat) ({ cls := "java/lang/StringBuilder", name := "toString", desc := "()Ljava/lang/String;" } : Jvm.MethodName)) ∈ lw_all := lw_g (lw_at lw_m6 94 rfl) rfl
theorem q1432 : (Jvm.Cond.constantLong "SortingLoop$Parser" (72 : Nat) (48 : Int64)) ∈ lw_all := lw_g (lw_at lw_m6 95 rfl) rfl
theorem q1433 : (Jvm.Cond.constantLong "SortingLoop$Parser" (74 : Nat) (57 : Int64)) ∈ lw_all := lw_g (lw_at lw_m6 96 rfl) rfl
theorem q1434 : (Jvm.Cond.methodLink "SortingLoop$Parser" (76 : Nat) ({ cls := "java/lang/Integer", name := "parseInt", desc := "(Ljava/lang/String;)I" } : Jvm.MethodName)) ∈ lw_all := lw_g (lw_at lw_m6 97 rfl) rfl
theorem q1519 : (Jvm.Cond.fieldLink "SortingLoop$Parser" (54 : Nat) "SortingLoop$Parser" "start" "I") ∈ lw_all := lw_g (lw_at lw_m6 182 rfl) rfl
theorem q1520 : (Jvm.Cond.fieldLink "SortingLoop$Parser" (51 : Nat) "SortingLoop$Parser" "next" "I") ∈ lw_all := lw_g (lw_at lw_m6 183 rfl) rfl
theorem q1521 : (Jvm.Cond.fieldLink "SortingLoop$Parser" (57 : Nat) "SortingLoop$Parser" "token" "I") ∈ lw_all := lw_g (lw_at lw_m6 184 rfl) rfl
theorem q1522 : (Jvm.Cond.fieldLink "SortingLoop$Parser" (82 : Nat) "SortingLoop$Parser" "value" "I") ∈ lw_all := lw_g (lw_at lw_m6 185 rfl) rfl
theorem q1523 : (Jvm.Cond.fieldLink "SortingLoop$Parser" (17 : Nat) "SortingLoop$Parser" "word" "Ljava/lang/String;") ∈ lw_all := lw_g (lw_at lw_m6 186 rfl) rfl
theorem q1524 : (Jvm.Cond.fieldLink "SortingLoop$Parser" (3 : Nat) "SortingLoop$Parser" "this$0" "LSortingLoop;") ∈ lw_all := lw_g (lw_at lw_m6 187 rfl) rfl
theorem q1530 : (Jvm.Cond.soleField "SortingLoop$Parser" "start") ∈ lw_all := lw_g (lw_at lw_m6 193 rfl) rfl
theorem q1532 : (Jvm.Cond.soleField "SortingLoop$Parser" "next") ∈ lw_all := lw_g (lw_at lw_m6 195 rfl) rfl
theorem q1534 : (Jvm.Cond.soleField "SortingLoop$Parser" "token") ∈ lw_all := lw_g (lw_at lw_m6 197 rfl) rfl
theorem q1536 : (Jvm.Cond.soleField "SortingLoop$Parser" "value") ∈ lw_all := lw_g (lw_at lw_m6 199 rfl) rfl
theorem q1538 : (Jvm.Cond.soleField "SortingLoop$Parser" "word") ∈ lw_all := lw_g (lw_at lw_m6 201 rfl) rfl
theorem q1540 : (Jvm.Cond.soleField "SortingLoop$Parser" "this$0") ∈ lw_all := lw_g (lw_at lw_m6 203 rfl) rfl
theorem q1552 : (Jvm.Cond.declares ({ cls := "SortingLoop$Parser", name := "word", desc := "()Ljava/lang/String;" } : Jvm.MethodName)) ∈ lw_tbl := lw_at lw_m6 215 rfl
theorem q1554 : (Jvm.Cond.instanceMethod ({ cls := "SortingLoop$Parser", name := "word", desc := "()Ljava/lang/String;" } : Jvm.MethodName)) ∈ lw_all := lw_g (lw_at lw_m6 217 rfl) rfl
theorem q1555 : (Jvm.Cond.code ({ cls := "SortingLoop$Parser", name := "word", desc := "()Ljava/lang/String;" } : Jvm.MethodName) prog_10_method_8_code (1 : Nat) (Option.some (Jvm.ClassFile.FieldType.object "java/lang/String"))) ∈ lw_all := lw_g (lw_at lw_m6 218 rfl) rfl
theorem q1567 : (Jvm.Cond.declares ({ cls := "SortingLoop$Parser", name := "expect", desc := "(ZI)V" } : Jvm.MethodName)) ∈ lw_tbl := lw_at lw_m6 230 rfl
theorem q1569 : (Jvm.Cond.instanceMethod ({ cls := "SortingLoop$Parser", name := "expect", desc := "(ZI)V" } : Jvm.MethodName)) ∈ lw_all := lw_g (lw_at lw_m6 232 rfl) rfl
theorem q1570 : (Jvm.Cond.code ({ cls := "SortingLoop$Parser", name := "expect", desc := "(ZI)V" } : Jvm.MethodName) prog_10_method_6_code (3 : Nat) (Option.none : Option Jvm.ClassFile.FieldType)) ∈ lw_all := lw_g (lw_at lw_m6 233 rfl) rfl
theorem q1571 : (Jvm.Cond.classLink "SortingLoop$Parser" (85 : Nat) "SortingLoop$ParseException") ∈ lw_all := lw_g (lw_at lw_m6 234 rfl) rfl
theorem q1580 : (Jvm.Cond.methodLink "SortingLoop$Parser" (87 : Nat) ({ cls := "SortingLoop$ParseException", name := "<init>", desc := "(II)V" } : Jvm.MethodName)) ∈ lw_all := lw_g (lw_at lw_m7 3 rfl) rfl
theorem q1601 : (Jvm.Cond.declares ({ cls := "SortingLoop$Parser", name := "advance", desc := "()V" } : Jvm.MethodName)) ∈ lw_tbl := lw_at lw_m7 24 rfl
theorem q1605 : (Jvm.Cond.declares ({ cls := "SortingLoop$Parser", name := "number", desc := "(II)I" } : Jvm.MethodName)) ∈ lw_tbl := lw_at lw_m7 28 rfl
theorem q1607 : (Jvm.Cond.instanceMethod ({ cls := "SortingLoop$Parser", name := "number", desc := "(II)I" } : Jvm.MethodName)) ∈ lw_all := lw_g (lw_at lw_m7 30 rfl) rfl
theorem q1608 : (Jvm.Cond.code ({ cls := "SortingLoop$Parser", name := "number", desc := "(II)I" } : Jvm.MethodName) prog_10_method_10_code (4 : Nat) (Option.some Jvm.ClassFile.FieldType.int)) ∈ lw_all := lw_g (lw_at lw_m7 31 rfl) rfl
theorem q1609 : (Jvm.Cond.methodLink "SortingLoop$Parser" (94 : Nat) ({ cls := "SortingLoop$Parser", name := "numberHere", desc := "(II)I" } : Jvm.MethodName)) ∈ lw_all := lw_g (lw_at lw_m7 32 rfl) rfl
theorem q1610 : (Jvm.Cond.instanceMethod ({ cls := "SortingLoop$Parser", name := "numberHere", desc := "(II)I" } : Jvm.MethodName)) ∈ lw_all := lw_g (lw_at lw_m7 33 rfl) rfl
theorem q1611 : (Jvm.Cond.sameMethod "SortingLoop$Parser" "SortingLoop$Parser" "numberHere" "(II)I") ∈ lw_all := lw_g (lw_at lw_m7 34 rfl) rfl
theorem q1614 : (Jvm.Cond.code ({ cls := "SortingLoop$Parser", name := "numberHere", desc := "(II)I" } : Jvm.MethodName) prog_10_method_9_code (3 : Nat) (Option.some Jvm.ClassFile.FieldType.int)) ∈ lw_all := lw_g (lw_at lw_m7 37 rfl) rfl
theorem q1615 : (Jvm.Cond.methodLink "SortingLoop$Parser" (90 : Nat) ({ cls := "SortingLoop$Parser", name := "expect", desc := "(ZI)V" } : Jvm.MethodName)) ∈ lw_all := lw_g (lw_at lw_m7 38 rfl) rfl
theorem q1620 : (Jvm.Cond.declares ({ cls := "SortingLoop$Parser", name := "end", desc := "()V" } : Jvm.MethodName)) ∈ lw_tbl := lw_at lw_m7 43 rfl
theorem q1622 : (Jvm.Cond.instanceMethod ({ cls := "SortingLoop$Parser", name := "end", desc := "()V" } : Jvm.MethodName)) ∈ lw_all := lw_g (lw_at lw_m7 45 rfl) rfl
theorem q1623 : (Jvm.Cond.code ({ cls := "SortingLoop$Parser", name := "end", desc := "()V" } : Jvm.MethodName) prog_10_method_11_code (1 : Nat) (Option.none : Option Jvm.ClassFile.FieldType)) ∈ lw_all := lw_g (lw_at lw_m7 46 rfl) rfl
theorem q1626 : (Jvm.Cond.declares ({ cls := "SortingLoop$Parser", name := "isOver", desc := "()Z" } : Jvm.MethodName)) ∈ lw_tbl := lw_at lw_m7 49 rfl
theorem q1628 : (Jvm.Cond.instanceMethod ({ cls := "SortingLoop$Parser", name := "isOver", desc := "()Z" } : Jvm.MethodName)) ∈ lw_all := lw_g (lw_at lw_m7 51 rfl) rfl
theorem q1629 : (Jvm.Cond.code ({ cls := "SortingLoop$Parser", name := "isOver", desc := "()Z" } : Jvm.MethodName) prog_10_method_7_code (1 : Nat) (Option.some Jvm.ClassFile.FieldType.boolean)) ∈ lw_all := lw_g (lw_at lw_m7 52 rfl) rfl
theorem q1707 : (Jvm.Cond.declares ({ cls := "SortingLoop$Parser", name := "numberHere", desc := "(II)I" } : Jvm.MethodName)) ∈ lw_tbl := lw_at lw_m7 130 rfl
theorem q3331 : (Jvm.Cond.sameMethod "SortingLoop$Parser" "SortingLoop$Parser" "at" "(I)I") ∈ lw_all := lw_g (lw_at lw_m14 74 rfl) rfl
theorem q3332 : (Jvm.Cond.sameMethod "SortingLoop$Parser" "SortingLoop$Parser" "past" "(III)I") ∈ lw_all := lw_g (lw_at lw_m14 75 rfl) rfl
theorem q3333 : (Jvm.Cond.sameMethod "SortingLoop$Parser" "SortingLoop$Parser" "text" "(II)Ljava/lang/String;") ∈ lw_all := lw_g (lw_at lw_m14 76 rfl) rfl
theorem q3335 : (Jvm.Cond.sameMethod "SortingLoop$Parser" "SortingLoop$Parser" "expect" "(ZI)V") ∈ lw_all := lw_g (lw_at lw_m14 78 rfl) rfl
theorem q3391 : (Jvm.Cond.castable "SortingLoop$Parser" "java/lang/Object") ∈ lw_tbl := lw_at lw_m14 134 rfl

/-! SortingLoop$Setup -/
set_option maxRecDepth 100000
def RX8 : String := "SortingLoop$Setup"
def TX8 : u_T := fun k => match k with
  | 0 => ("SortingLoop$Parser", "start", "I", false)
  | 1 => ("SortingLoop$Parser", "next", "I", false)
  | 2 => ("SortingLoop$Parser", "token", "I", false)
  | 3 => ("SortingLoop$Parser", "value", "I", false)
  | 4 => ("SortingLoop$Parser", "word", "Ljava/lang/String;", false)
  | 5 => ("SortingLoop$Parser", "this$0", "LSortingLoop;", true)
  | 6 => ("SortingLoop$Setup", "made", "LSortingLoop$Loop;", false)
  | _ => ("SortingLoop$Setup", "this$0", "LSortingLoop;", true)
def tyX8 : Nat → FieldType := fun k => match k with
  | 0 => .int
  | 1 => .int
  | 2 => .int
  | 3 => .int
  | 4 => .object "java/lang/String"
  | 5 => .object "SortingLoop"
  | 6 => .object "SortingLoop$Loop"
  | _ => .object "SortingLoop"
abbrev wsX80 : List Cond := u_ws RX8 TX8 8
-- two fields of one name: no nmX8
theorem tyX8_ok : ∀ k, k < 8 → parseFieldDescriptor (TX8 k).2.2.1 = some (tyX8 k) := by decide +kernel
abbrev cX8_init : ByteArray := prog_15_method_1_code
def yX8_init : MethodName := ⟨RX8, "<init>", "(LSortingLoop;)V"⟩
def dkwX8_init_0 : List UInt8 := [42, 43, 181, 0, 3, 42, 43, 183, 0, 9, 177]
abbrev dktX8_init_0 : List UInt8 := dkwX8_init_0 ++ []
theorem dksX8_init_0 : cX8_init.data.toList.drop 0 = dktX8_init_0 := by decide +kernel
theorem dX8_init_0 : decode cX8_init 0 = .ok (.aload_n 0, 1) := dk_42 (dk_at dksX8_init_0 0 rfl rfl)
theorem dX8_init_1 : decode cX8_init 1 = .ok (.aload_n 1, 1) := dk_43 (dk_at dksX8_init_0 1 rfl rfl)
theorem dX8_init_2 : decode cX8_init 2 = .ok (.putfield 3, 3) := dk_181 0 3 (dk_at dksX8_init_0 2 rfl rfl)
theorem dX8_init_5 : decode cX8_init 5 = .ok (.aload_n 0, 1) := dk_42 (dk_at dksX8_init_0 5 rfl rfl)
theorem dX8_init_6 : decode cX8_init 6 = .ok (.aload_n 1, 1) := dk_43 (dk_at dksX8_init_0 6 rfl rfl)
theorem dX8_init_7 : decode cX8_init 7 = .ok (.invokespecial 9, 3) := dk_183 0 9 (dk_at dksX8_init_0 7 rfl rfl)
theorem dX8_init_10 : decode cX8_init 10 = .ok (.return_, 1) := dk_177 (dk_at dksX8_init_0 10 rfl rfl)
abbrev cX8_read : ByteArray := prog_15_method_6_code
def yX8_read : MethodName := ⟨RX8, "read", "()LSortingLoop$Loop;"⟩
def dkwX8_read_2 : List UInt8 := [180, 0, 44, 176]
abbrev dktX8_read_2 : List UInt8 := dkwX8_read_2 ++ []
def dkwX8_read_1 : List UInt8 := [180, 0, 44, 180, 0, 66, 185, 0, 112, 1, 0, 154, 0, 7, 4, 167, 0, 4, 3, 8, 182, 0, 27, 42]
abbrev dktX8_read_1 : List UInt8 := dkwX8_read_1 ++ dktX8_read_2
def dkwX8_read_0 : List UInt8 := [42, 182, 0, 102, 42, 182, 0, 104, 154, 0, 14, 42, 42, 182, 0, 15, 182, 0, 108, 167, 255, 241, 42, 42]
abbrev dktX8_read_0 : List UInt8 := dkwX8_read_0 ++ dktX8_read_1
theorem dksX8_read_0 : cX8_read.data.toList.drop 0 = dktX8_read_0 := by decide +kernel
theorem dksX8_read_1 : cX8_read.data.toList.drop 24 = dktX8_read_1 := dk_seg dksX8_read_0 24 rfl rfl
theorem dksX8_read_2 : cX8_read.data.toList.drop 48 = dktX8_read_2 := dk_seg dksX8_read_1 24 rfl rfl
theorem dX8_read_0 : decode cX8_read 0 = .ok (.aload_n 0, 1) := dk_42 (dk_at dksX8_read_0 0 rfl rfl)
theorem dX8_read_1 : decode cX8_read 1 = .ok (.invokevirtual 102, 3) := dk_182 0 102 (dk_at dksX8_read_0 1 rfl rfl)
theorem dX8_read_4 : decode cX8_read 4 = .ok (.aload_n 0, 1) := dk_42 (dk_at dksX8_read_0 4 rfl rfl)
theorem dX8_read_5 : decode cX8_read 5 = .ok (.invokevirtual 104, 3) := dk_182 0 104 (dk_at dksX8_read_0 5 rfl rfl)
theorem dX8_read_8 : decode cX8_read 8 = .ok (.ifCond .ne 14, 3) := dk_154 0 14 (dk_at dksX8_read_0 8 rfl rfl)
theorem dX8_read_11 : decode cX8_read 11 = .ok (.aload_n 0, 1) := dk_42 (dk_at dksX8_read_0 11 rfl rfl)
theorem dX8_read_12 : decode cX8_read 12 = .ok (.aload_n 0, 1) := dk_42 (dk_at dksX8_read_0 12 rfl rfl)
theorem dX8_read_13 : decode cX8_read 13 = .ok (.invokevirtual 15, 3) := dk_182 0 15 (dk_at dksX8_read_0 13 rfl rfl)
theorem dX8_read_16 : decode cX8_read 16 = .ok (.invokevirtual 108, 3) := dk_182 0 108 (dk_at dksX8_read_0 16 rfl rfl)
theorem dX8_read_19 : decode cX8_read 19 = .ok (.goto (-15), 3) := dk_167 255 241 (dk_at dksX8_read_0 19 rfl rfl)
theorem dX8_read_22 : decode cX8_read 22 = .ok (.aload_n 0, 1) := dk_42 (dk_at dksX8_read_0 22 rfl rfl)
theorem dX8_read_23 : decode cX8_read 23 = .ok (.aload_n 0, 1) := dk_42 (dk_at dksX8_read_0 23 rfl rfl)
theorem dX8_read_24 : decode cX8_read 24 = .ok (.getfield 44, 3) := dk_180 0 44 (dk_at dksX8_read_1 0 rfl rfl)
theorem dX8_read_27 : decode cX8_read 27 = .ok (.getfield 66, 3) := dk_180 0 66 (dk_at dksX8_read_1 3 rfl rfl)
theorem dX8_read_30 : decode cX8_read 30 = .ok (.invokeinterface 112 1, 5) := by decide +kernel
theorem dX8_read_35 : decode cX8_read 35 = .ok (.ifCond .ne 7, 3) := dk_154 0 7 (dk_at dksX8_read_1 11 rfl rfl)
theorem dX8_read_38 : decode cX8_read 38 = .ok (.iconst 1, 1) := dk_4 (dk_at dksX8_read_1 14 rfl rfl)
theorem dX8_read_39 : decode cX8_read 39 = .ok (.goto 4, 3) := dk_167 0 4 (dk_at dksX8_read_1 15 rfl rfl)
theorem dX8_read_42 : decode cX8_read 42 = .ok (.iconst 0, 1) := dk_3 (dk_at dksX8_read_1 18 rfl rfl)
theorem dX8_read_43 : decode cX8_read 43 = .ok (.iconst 5, 1) := dk_8 (dk_at dksX8_read_1 19 rfl rfl)
theorem dX8_read_44 : decode cX8_read 44 = .ok (.invokevirtual 27, 3) := dk_182 0 27 (dk_at dksX8_read_1 20 rfl rfl)
theorem dX8_read_47 : decode cX8_read 47 = .ok (.aload_n 0, 1) := dk_42 (dk_at dksX8_read_1 23 rfl rfl)
theorem dX8_read_48 : decode cX8_read 48 = .ok (.getfield 44, 3) := dk_180 0 44 (dk_at dksX8_read_2 0 rfl rfl)
theorem dX8_read_51 : decode cX8_read 51 = .ok (.areturn, 1) := dk_176 (dk_at dksX8_read_2 3 rfl rfl)
abbrev cX8_loop : ByteArray := prog_15_method_2_code
def yX8_loop : MethodName := ⟨RX8, "loop", "()V"⟩
def dkwX8_loop_2 : List UInt8 := [42, 182, 0, 48, 177]
abbrev dktX8_loop_2 : List UInt8 := dkwX8_loop_2 ++ []
def dkwX8_loop_1 : List UInt8 := [182, 0, 35, 60, 42, 187, 0, 39, 89, 27, 42, 3, 27, 4, 100, 182, 0, 35, 183, 0, 41, 181, 0, 44]
abbrev dktX8_loop_1 : List UInt8 := dkwX8_loop_1 ++ dktX8_loop_2
def dkwX8_loop_0 : List UInt8 := [42, 42, 182, 0, 15, 18, 19, 182, 0, 21, 4, 182, 0, 27, 42, 182, 0, 31, 42, 16, 6, 16, 40]
abbrev dktX8_loop_0 : List UInt8 := dkwX8_loop_0 ++ dktX8_loop_1
theorem dksX8_loop_0 : cX8_loop.data.toList.drop 0 = dktX8_loop_0 := by decide +kernel
theorem dksX8_loop_1 : cX8_loop.data.toList.drop 23 = dktX8_loop_1 := dk_seg dksX8_loop_0 23 rfl rfl
theorem dksX8_loop_2 : cX8_loop.data.toList.drop 47 = dktX8_loop_2 := dk_seg dksX8_loop_1 24 rfl rfl
theorem dX8_loop_0 : decode cX8_loop 0 = .ok (.aload_n 0, 1) := dk_42 (dk_at dksX8_loop_0 0 rfl rfl)
theorem dX8_loop_1 : decode cX8_loop 1 = .ok (.aload_n 0, 1) := dk_42 (dk_at dksX8_loop_0 1 rfl rfl)
theorem dX8_loop_2 : decode cX8_loop 2 = .ok (.invokevirtual 15, 3) := dk_182 0 15 (dk_at dksX8_loop_0 2 rfl rfl)
theorem dX8_loop_5 : decode cX8_loop 5 = .ok (.ldc 19, 2) := dk_18 19 (dk_at dksX8_loop_0 5 rfl rfl)
theorem dX8_loop_7 : decode cX8_loop 7 = .ok (.invokevirtual 21, 3) := dk_182 0 21 (dk_at dksX8_loop_0 7 rfl rfl)
theorem dX8_loop_10 : decode cX8_loop 10 = .ok (.iconst 1, 1) := dk_4 (dk_at dksX8_loop_0 10 rfl rfl)
theorem dX8_loop_11 : decode cX8_loop 11 = .ok (.invokevirtual 27, 3) := dk_182 0 27 (dk_at dksX8_loop_0 11 rfl rfl)
theorem dX8_loop_14 : decode cX8_loop 14 = .ok (.aload_n 0, 1) := dk_42 (dk_at dksX8_loop_0 14 rfl rfl)
theorem dX8_loop_15 : decode cX8_loop 15 = .ok (.invokevirtual 31, 3) := dk_182 0 31 (dk_at dksX8_loop_0 15 rfl rfl)
theorem dX8_loop_18 : decode cX8_loop 18 = .ok (.aload_n 0, 1) := dk_42 (dk_at dksX8_loop_0 18 rfl rfl)
theorem dX8_loop_19 : decode cX8_loop 19 = .ok (.bipush 6, 2) := dk_16 6 (dk_at dksX8_loop_0 19 rfl rfl)
theorem dX8_loop_21 : decode cX8_loop 21 = .ok (.bipush 40, 2) := dk_16 40 (dk_at dksX8_loop_0 21 rfl rfl)
theorem dX8_loop_23 : decode cX8_loop 23 = .ok (.invokevirtual 35, 3) := dk_182 0 35 (dk_at dksX8_loop_1 0 rfl rfl)
theorem dX8_loop_26 : decode cX8_loop 26 = .ok (.istore_n 1, 1) := dk_60 (dk_at dksX8_loop_1 3 rfl rfl)
theorem dX8_loop_27 : decode cX8_loop 27 = .ok (.aload_n 0, 1) := dk_42 (dk_at dksX8_loop_1 4 rfl rfl)
theorem dX8_loop_28 : decode cX8_loop 28 = .ok (.new 39, 3) := dk_187 0 39 (dk_at dksX8_loop_1 5 rfl rfl)
theorem dX8_loop_31 : decode cX8_loop 31 = .ok (.dup, 1) := dk_89 (dk_at dksX8_loop_1 8 rfl rfl)
theorem dX8_loop_32 : decode cX8_loop 32 = .ok (.iload_n 1, 1) := dk_27 (dk_at dksX8_loop_1 9 rfl rfl)
theorem dX8_loop_33 : decode cX8_loop 33 = .ok (.aload_n 0, 1) := dk_42 (dk_at dksX8_loop_1 10 rfl rfl)
theorem dX8_loop_34 : decode cX8_loop 34 = .ok (.iconst 0, 1) := dk_3 (dk_at dksX8_loop_1 11 rfl rfl)
theorem dX8_loop_35 : decode cX8_loop 35 = .ok (.iload_n 1, 1) := dk_27 (dk_at dksX8_loop_1 12 rfl rfl)
theorem dX8_loop_36 : decode cX8_loop 36 = .ok (.iconst 1, 1) := dk_4 (dk_at dksX8_loop_1 13 rfl rfl)
theorem dX8_loop_37 : decode cX8_loop 37 = .ok (.isub, 1) := dk_100 (dk_at dksX8_loop_1 14 rfl rfl)
theorem dX8_loop_38 : decode cX8_loop 38 = .ok (.invokevirtual 35, 3) := dk_182 0 35 (dk_at dksX8_loop_1 15 rfl rfl)
theorem dX8_loop_41 : decode cX8_loop 41 = .ok (.invokespecial 41, 3) := dk_183 0 41 (dk_at dksX8_loop_1 18 rfl rfl)
theorem dX8_loop_44 : decode cX8_loop 44 = .ok (.putfield 44, 3) := dk_181 0 44 (dk_at dksX8_loop_1 21 rfl rfl)
theorem dX8_loop_47 : decode cX8_loop 47 = .ok (.aload_n 0, 1) := dk_42 (dk_at dksX8_loop_2 0 rfl rfl)
theorem dX8_loop_48 : decode cX8_loop 48 = .ok (.invokevirtual 48, 3) := dk_182 0 48 (dk_at dksX8_loop_2 1 rfl rfl)
theorem dX8_loop_51 : decode cX8_loop 51 = .ok (.return_, 1) := dk_177 (dk_at dksX8_loop_2 4 rfl rfl)
abbrev cX8_statement : ByteArray := prog_15_method_5_code
def yX8_statement : MethodName := ⟨RX8, "statement", "(Ljava/lang/String;)V"⟩
def dkwX8_statement_6 : List UInt8 := [16, 9, 182, 0, 35, 181, 0, 100, 167, 0, 9, 42, 3, 4, 182, 0, 27, 42, 182, 0, 48, 177]
abbrev dktX8_statement_6 : List UInt8 := dkwX8_statement_6 ++ []
def dkwX8_statement_5 : List UInt8 := [42, 182, 0, 96, 167, 0, 37, 42, 182, 0, 98, 167, 0, 30, 42, 182, 0, 31, 42, 180, 0, 44, 42, 4]
abbrev dktX8_statement_5 : List UInt8 := dkwX8_statement_5 ++ dktX8_statement_6
def dkwX8_statement_4 : List UInt8 := [170, 0, 0, 0, 0, 0, 0, 63, 0, 0, 0, 0, 0, 0, 0, 2, 0, 0, 0, 28, 0, 0, 0, 35, 0, 0, 0, 42]
abbrev dktX8_statement_4 : List UInt8 := dkwX8_statement_4 ++ dktX8_statement_5
def dkwX8_statement_3 : List UInt8 := [62, 167, 0, 14, 44, 18, 94, 182, 0, 21, 153, 0, 5, 5, 62, 29]
abbrev dktX8_statement_3 : List UInt8 := dkwX8_statement_3 ++ dktX8_statement_4
def dkwX8_statement_2 : List UInt8 := [44, 18, 90, 182, 0, 21, 153, 0, 33, 3, 62, 167, 0, 28, 44, 18, 92, 182, 0, 21, 153, 0, 19, 4]
abbrev dktX8_statement_2 : List UInt8 := dkwX8_statement_2 ++ dktX8_statement_3
def dkwX8_statement_1 : List UInt8 := [171, 0, 0, 0, 0, 0, 0, 75, 0, 0, 0, 3, 200, 219, 128, 165, 0, 0, 0, 64, 5, 164, 35, 33, 0, 0, 0, 50, 113, 230, 245, 254, 0, 0, 0, 36]
abbrev dktX8_statement_1 : List UInt8 := dkwX8_statement_1 ++ dktX8_statement_2
def dkwX8_statement_0 : List UInt8 := [43, 77, 2, 62, 44, 182, 0, 87]
abbrev dktX8_statement_0 : List UInt8 := dkwX8_statement_0 ++ dktX8_statement_1
theorem dksX8_statement_0 : cX8_statement.data.toList.drop 0 = dktX8_statement_0 := by decide +kernel
theorem dksX8_statement_1 : cX8_statement.data.toList.drop 8 = dktX8_statement_1 := dk_seg dksX8_statement_0 8 rfl rfl
theorem dksX8_statement_2 : cX8_statement.data.toList.drop 44 = dktX8_statement_2 := dk_seg dksX8_statement_1 36 rfl rfl
theorem dksX8_statement_3 : cX8_statement.data.toList.drop 68 = dktX8_statement_3 := dk_seg dksX8_statement_2 24 rfl rfl
theorem dksX8_statement_4 : cX8_statement.data.toList.drop 84 = dktX8_statement_4 := dk_seg dksX8_statement_3 16 rfl rfl
theorem dksX8_statement_5 : cX8_statement.data.toList.drop 112 = dktX8_statement_5 := dk_seg dksX8_statement_4 28 rfl rfl
theorem dksX8_statement_6 : cX8_statement.data.toList.drop 136 = dktX8_statement_6 := dk_seg dksX8_statement_5 24 rfl rfl
theorem dX8_statement_0 : decode cX8_statement 0 = .ok (.aload_n 1, 1) := dk_43 (dk_at dksX8_statement_0 0 rfl rfl)
theorem dX8_statement_1 : decode cX8_statement 1 = .ok (.astore_n 2, 1) := dk_77 (dk_at dksX8_statement_0 1 rfl rfl)
theorem dX8_statement_2 : decode cX8_statement 2 = .ok (.iconst (-1), 1) := dk_2 (dk_at dksX8_statement_0 2 rfl rfl)
theorem dX8_statement_3 : decode cX8_statement 3 = .ok (.istore_n 3, 1) := dk_62 (dk_at dksX8_statement_0 3 rfl rfl)
theorem dX8_statement_4 : decode cX8_statement 4 = .ok (.aload_n 2, 1) := dk_44 (dk_at dksX8_statement_0 4 rfl rfl)
theorem dX8_statement_5 : decode cX8_statement 5 = .ok (.invokevirtual 87, 3) := dk_182 0 87 (dk_at dksX8_statement_0 5 rfl rfl)
theorem dX8_statement_8 : decode cX8_statement 8 = .ok (.lookupswitch 75 #[(-925138779, 64), (94642977, 50), (1910961662, 36)], 36) := by decide +kernel
theorem dX8_statement_44 : decode cX8_statement 44 = .ok (.aload_n 2, 1) := dk_44 (dk_at dksX8_statement_2 0 rfl rfl)
theorem dX8_statement_45 : decode cX8_statement 45 = .ok (.ldc 90, 2) := dk_18 90 (dk_at dksX8_statement_2 1 rfl rfl)
theorem dX8_statement_47 : decode cX8_statement 47 = .ok (.invokevirtual 21, 3) := dk_182 0 21 (dk_at dksX8_statement_2 3 rfl rfl)
theorem dX8_statement_50 : decode cX8_statement 50 = .ok (.ifCond .eq 33, 3) := dk_153 0 33 (dk_at dksX8_statement_2 6 rfl rfl)
theorem dX8_statement_53 : decode cX8_statement 53 = .ok (.iconst 0, 1) := dk_3 (dk_at dksX8_statement_2 9 rfl rfl)
theorem dX8_statement_54 : decode cX8_statement 54 = .ok (.istore_n 3, 1) := dk_62 (dk_at dksX8_statement_2 10 rfl rfl)
theorem dX8_statement_55 : decode cX8_statement 55 = .ok (.goto 28, 3) := dk_167 0 28 (dk_at dksX8_statement_2 11 rfl rfl)
theorem dX8_statement_58 : decode cX8_statement 58 = .ok (.aload_n 2, 1) := dk_44 (dk_at dksX8_statement_2 14 rfl rfl)
theorem dX8_statement_59 : decode cX8_statement 59 = .ok (.ldc 92, 2) := dk_18 92 (dk_at dksX8_statement_2 15 rfl rfl)
theorem dX8_statement_61 : decode cX8_statement 61 = .ok (.invokevirtual 21, 3) := dk_182 0 21 (dk_at dksX8_statement_2 17 rfl rfl)
theorem dX8_statement_64 : decode cX8_statement 64 = .ok (.ifCond .eq 19, 3) := dk_153 0 19 (dk_at dksX8_statement_2 20 rfl rfl)
theorem dX8_statement_67 : decode cX8_statement 67 = .ok (.iconst 1, 1) := dk_4 (dk_at dksX8_statement_2 23 rfl rfl)
theorem dX8_statement_68 : decode cX8_statement 68 = .ok (.istore_n 3, 1) := dk_62 (dk_at dksX8_statement_3 0 rfl rfl)
theorem dX8_statement_69 : decode cX8_statement 69 = .ok (.goto 14, 3) := dk_167 0 14 (dk_at dksX8_statement_3 1 rfl rfl)
theorem dX8_statement_72 : decode cX8_statement 72 = .ok (.aload_n 2, 1) := dk_44 (dk_at dksX8_statement_3 4 rfl rfl)
theorem dX8_statement_73 : decode cX8_statement 73 = .ok (.ldc 94, 2) := dk_18 94 (dk_at dksX8_statement_3 5 rfl rfl)
theorem dX8_statement_75 : decode cX8_statement 75 = .ok (.invokevirtual 21, 3) := dk_182 0 21 (dk_at dksX8_statement_3 7 rfl rfl)
theorem dX8_statement_78 : decode cX8_statement 78 = .ok (.ifCond .eq 5, 3) := dk_153 0 5 (dk_at dksX8_statement_3 10 rfl rfl)
theorem dX8_statement_81 : decode cX8_statement 81 = .ok (.iconst 2, 1) := dk_5 (dk_at dksX8_statement_3 13 rfl rfl)
theorem dX8_statement_82 : decode cX8_statement 82 = .ok (.istore_n 3, 1) := dk_62 (dk_at dksX8_statement_3 14 rfl rfl)
theorem dX8_statement_83 : decode cX8_statement 83 = .ok (.iload_n 3, 1) := dk_29 (dk_at dksX8_statement_3 15 rfl rfl)
theorem dX8_statement_84 : decode cX8_statement 84 = .ok (.tableswitch 63 0 2 #[28, 35, 42], 28) := by decide +kernel
theorem dX8_statement_112 : decode cX8_statement 112 = .ok (.aload_n 0, 1) := dk_42 (dk_at dksX8_statement_5 0 rfl rfl)
theorem dX8_statement_113 : decode cX8_statement 113 = .ok (.invokevirtual 96, 3) := dk_182 0 96 (dk_at dksX8_statement_5 1 rfl rfl)
theorem dX8_statement_116 : decode cX8_statement 116 = .ok (.goto 37, 3) := dk_167 0 37 (dk_at dksX8_statement_5 4 rfl rfl)
theorem dX8_statement_119 : decode cX8_statement 119 = .ok (.aload_n 0, 1) := dk_42 (dk_at dksX8_statement_5 7 rfl rfl)
theorem dX8_statement_120 : decode cX8_statement 120 = .ok (.invokevirtual 98, 3) := dk_182 0 98 (dk_at dksX8_statement_5 8 rfl rfl)
theorem dX8_statement_123 : decode cX8_statement 123 = .ok (.goto 30, 3) := dk_167 0 30 (dk_at dksX8_statement_5 11 rfl rfl)
theorem dX8_statement_126 : decode cX8_statement 126 = .ok (.aload_n 0, 1) := dk_42 (dk_at dksX8_statement_5 14 rfl rfl)
theorem dX8_statement_127 : decode cX8_statement 127 = .ok (.invokevirtual 31, 3) := dk_182 0 31 (dk_at dksX8_statement_5 15 rfl rfl)
theorem dX8_statement_130 : decode cX8_statement 130 = .ok (.aload_n 0, 1) := dk_42 (dk_at dksX8_statement_5 18 rfl rfl)
theorem dX8_statement_131 : decode cX8_statement 131 = .ok (.getfield 44, 3) := dk_180 0 44 (dk_at dksX8_statement_5 19 rfl rfl)
theorem dX8_statement_134 : decode cX8_statement 134 = .ok (.aload_n 0, 1) := dk_42 (dk_at dksX8_statement_5 22 rfl rfl)
theorem dX8_statement_135 : decode cX8_statement 135 = .ok (.iconst 1, 1) := dk_4 (dk_at dksX8_statement_5 23 rfl rfl)
theorem dX8_statement_136 : decode cX8_statement 136 = .ok (.bipush 9, 2) := dk_16 9 (dk_at dksX8_statement_6 0 rfl rfl)
theorem dX8_statement_138 : decode cX8_statement 138 = .ok (.invokevirtual 35, 3) := dk_182 0 35 (dk_at dksX8_statement_6 2 rfl rfl)
theorem dX8_statement_141 : decode cX8_statement 141 = .ok (.putfield 100, 3) := dk_181 0 100 (dk_at dksX8_statement_6 5 rfl rfl)
theorem dX8_statement_144 : decode cX8_statement 144 = .ok (.goto 9, 3) := dk_167 0 9 (dk_at dksX8_statement_6 8 rfl rfl)
theorem dX8_statement_147 : decode cX8_statement 147 = .ok (.aload_n 0, 1) := dk_42 (dk_at dksX8_statement_6 11 rfl rfl)
theorem dX8_statement_148 : decode cX8_statement 148 = .ok (.iconst 0, 1) := dk_3 (dk_at dksX8_statement_6 12 rfl rfl)
theorem dX8_statement_149 : decode cX8_statement 149 = .ok (.iconst 1, 1) := dk_4 (dk_at dksX8_statement_6 13 rfl rfl)
theorem dX8_statement_150 : decode cX8_statement 150 = .ok (.invokevirtual 27, 3) := dk_182 0 27 (dk_at dksX8_statement_6 14 rfl rfl)
theorem dX8_statement_153 : decode cX8_statement 153 = .ok (.aload_n 0, 1) := dk_42 (dk_at dksX8_statement_6 17 rfl rfl)
theorem dX8_statement_154 : decode cX8_statement 154 = .ok (.invokevirtual 48, 3) := dk_182 0 48 (dk_at dksX8_statement_6 18 rfl rfl)
theorem dX8_statement_157 : decode cX8_statement 157 = .ok (.return_, 1) := dk_177 (dk_at dksX8_statement_6 21 rfl rfl)
abbrev cX8_scanner : ByteArray := prog_15_method_3_code
def yX8_scanner : MethodName := ⟨RX8, "scanner", "()V"⟩
def dkwX8_scanner_3 : List UInt8 := [27, 4, 84, 42, 182, 0, 31, 177]
abbrev dktX8_scanner_3 : List UInt8 := dkwX8_scanner_3 ++ []
def dkwX8_scanner_2 : List UInt8 := [180, 0, 62, 27, 51, 154, 0, 7, 4, 167, 0, 4, 3, 6, 182, 0, 27, 42, 180, 0, 44, 180, 0, 62]
abbrev dktX8_scanner_2 : List UInt8 := dkwX8_scanner_2 ++ dktX8_scanner_3
def dkwX8_scanner_1 : List UInt8 := [182, 0, 31, 42, 3, 42, 180, 0, 44, 180, 0, 55, 4, 100, 182, 0, 59, 60, 42, 42, 180, 0, 44]
abbrev dktX8_scanner_1 : List UInt8 := dkwX8_scanner_1 ++ dktX8_scanner_2
def dkwX8_scanner_0 : List UInt8 := [42, 42, 180, 0, 44, 182, 0, 51, 7, 162, 0, 7, 4, 167, 0, 4, 3, 7, 182, 0, 27, 42]
abbrev dktX8_scanner_0 : List UInt8 := dkwX8_scanner_0 ++ dktX8_scanner_1
theorem dksX8_scanner_0 : cX8_scanner.data.toList.drop 0 = dktX8_scanner_0 := by decide +kernel
theorem dksX8_scanner_1 : cX8_scanner.data.toList.drop 22 = dktX8_scanner_1 := dk_seg dksX8_scanner_0 22 rfl rfl
theorem dksX8_scanner_2 : cX8_scanner.data.toList.drop 45 = dktX8_scanner_2 := dk_seg dksX8_scanner_1 23 rfl rfl
theorem dksX8_scanner_3 : cX8_scanner.data.toList.drop 69 = dktX8_scanner_3 := dk_seg dksX8_scanner_2 24 rfl rfl
theorem dX8_scanner_0 : decode cX8_scanner 0 = .ok (.aload_n 0, 1) := dk_42 (dk_at dksX8_scanner_0 0 rfl rfl)
theorem dX8_scanner_1 : decode cX8_scanner 1 = .ok (.aload_n 0, 1) := dk_42 (dk_at dksX8_scanner_0 1 rfl rfl)
theorem dX8_scanner_2 : decode cX8_scanner 2 = .ok (.getfield 44, 3) := dk_180 0 44 (dk_at dksX8_scanner_0 2 rfl rfl)
theorem dX8_scanner_5 : decode cX8_scanner 5 = .ok (.invokevirtual 51, 3) := dk_182 0 51 (dk_at dksX8_scanner_0 5 rfl rfl)
theorem dX8_scanner_8 : decode cX8_scanner 8 = .ok (.iconst 4, 1) := dk_7 (dk_at dksX8_scanner_0 8 rfl rfl)
theorem dX8_scanner_9 : decode cX8_scanner 9 = .ok (.if_icmp .ge 7, 3) := dk_162 0 7 (dk_at dksX8_scanner_0 9 rfl rfl)
theorem dX8_scanner_12 : decode cX8_scanner 12 = .ok (.iconst 1, 1) := dk_4 (dk_at dksX8_scanner_0 12 rfl rfl)
theorem dX8_scanner_13 : decode cX8_scanner 13 = .ok (.goto 4, 3) := dk_167 0 4 (dk_at dksX8_scanner_0 13 rfl rfl)
theorem dX8_scanner_16 : decode cX8_scanner 16 = .ok (.iconst 0, 1) := dk_3 (dk_at dksX8_scanner_0 16 rfl rfl)
theorem dX8_scanner_17 : decode cX8_scanner 17 = .ok (.iconst 4, 1) := dk_7 (dk_at dksX8_scanner_0 17 rfl rfl)
theorem dX8_scanner_18 : decode cX8_scanner 18 = .ok (.invokevirtual 27, 3) := dk_182 0 27 (dk_at dksX8_scanner_0 18 rfl rfl)
theorem dX8_scanner_21 : decode cX8_scanner 21 = .ok (.aload_n 0, 1) := dk_42 (dk_at dksX8_scanner_0 21 rfl rfl)
theorem dX8_scanner_22 : decode cX8_scanner 22 = .ok (.invokevirtual 31, 3) := dk_182 0 31 (dk_at dksX8_scanner_1 0 rfl rfl)
theorem dX8_scanner_25 : decode cX8_scanner 25 = .ok (.aload_n 0, 1) := dk_42 (dk_at dksX8_scanner_1 3 rfl rfl)
theorem dX8_scanner_26 : decode cX8_scanner 26 = .ok (.iconst 0, 1) := dk_3 (dk_at dksX8_scanner_1 4 rfl rfl)
theorem dX8_scanner_27 : decode cX8_scanner 27 = .ok (.aload_n 0, 1) := dk_42 (dk_at dksX8_scanner_1 5 rfl rfl)
theorem dX8_scanner_28 : decode cX8_scanner 28 = .ok (.getfield 44, 3) := dk_180 0 44 (dk_at dksX8_scanner_1 6 rfl rfl)
theorem dX8_scanner_31 : decode cX8_scanner 31 = .ok (.getfield 55, 3) := dk_180 0 55 (dk_at dksX8_scanner_1 9 rfl rfl)
theorem dX8_scanner_34 : decode cX8_scanner 34 = .ok (.iconst 1, 1) := dk_4 (dk_at dksX8_scanner_1 12 rfl rfl)
theorem dX8_scanner_35 : decode cX8_scanner 35 = .ok (.isub, 1) := dk_100 (dk_at dksX8_scanner_1 13 rfl rfl)
theorem dX8_scanner_36 : decode cX8_scanner 36 = .ok (.invokevirtual 59, 3) := dk_182 0 59 (dk_at dksX8_scanner_1 14 rfl rfl)
theorem dX8_scanner_39 : decode cX8_scanner 39 = .ok (.istore_n 1, 1) := dk_60 (dk_at dksX8_scanner_1 17 rfl rfl)
theorem dX8_scanner_40 : decode cX8_scanner 40 = .ok (.aload_n 0, 1) := dk_42 (dk_at dksX8_scanner_1 18 rfl rfl)
theorem dX8_scanner_41 : decode cX8_scanner 41 = .ok (.aload_n 0, 1) := dk_42 (dk_at dksX8_scanner_1 19 rfl rfl)
theorem dX8_scanner_42 : decode cX8_scanner 42 = .ok (.getfield 44, 3) := dk_180 0 44 (dk_at dksX8_scanner_1 20 rfl rfl)
theorem dX8_scanner_45 : decode cX8_scanner 45 = .ok (.getfield 62, 3) := dk_180 0 62 (dk_at dksX8_scanner_2 0 rfl rfl)
theorem dX8_scanner_48 : decode cX8_scanner 48 = .ok (.iload_n 1, 1) := dk_27 (dk_at dksX8_scanner_2 3 rfl rfl)
theorem dX8_scanner_49 : decode cX8_scanner 49 = .ok (.baload, 1) := dk_51 (dk_at dksX8_scanner_2 4 rfl rfl)
theorem dX8_scanner_50 : decode cX8_scanner 50 = .ok (.ifCond .ne 7, 3) := dk_154 0 7 (dk_at dksX8_scanner_2 5 rfl rfl)
theorem dX8_scanner_53 : decode cX8_scanner 53 = .ok (.iconst 1, 1) := dk_4 (dk_at dksX8_scanner_2 8 rfl rfl)
theorem dX8_scanner_54 : decode cX8_scanner 54 = .ok (.goto 4, 3) := dk_167 0 4 (dk_at dksX8_scanner_2 9 rfl rfl)
theorem dX8_scanner_57 : decode cX8_scanner 57 = .ok (.iconst 0, 1) := dk_3 (dk_at dksX8_scanner_2 12 rfl rfl)
theorem dX8_scanner_58 : decode cX8_scanner 58 = .ok (.iconst 3, 1) := dk_6 (dk_at dksX8_scanner_2 13 rfl rfl)
theorem dX8_scanner_59 : decode cX8_scanner 59 = .ok (.invokevirtual 27, 3) := dk_182 0 27 (dk_at dksX8_scanner_2 14 rfl rfl)
theorem dX8_scanner_62 : decode cX8_scanner 62 = .ok (.aload_n 0, 1) := dk_42 (dk_at dksX8_scanner_2 17 rfl rfl)
theorem dX8_scanner_63 : decode cX8_scanner 63 = .ok (.getfield 44, 3) := dk_180 0 44 (dk_at dksX8_scanner_2 18 rfl rfl)
theorem dX8_scanner_66 : decode cX8_scanner 66 = .ok (.getfield 62, 3) := dk_180 0 62 (dk_at dksX8_scanner_2 21 rfl rfl)
theorem dX8_scanner_69 : decode cX8_scanner 69 = .ok (.iload_n 1, 1) := dk_27 (dk_at dksX8_scanner_3 0 rfl rfl)
theorem dX8_scanner_70 : decode cX8_scanner 70 = .ok (.iconst 1, 1) := dk_4 (dk_at dksX8_scanner_3 1 rfl rfl)
theorem dX8_scanner_71 : decode cX8_scanner 71 = .ok (.bastore, 1) := dk_84 (dk_at dksX8_scanner_3 2 rfl rfl)
theorem dX8_scanner_72 : decode cX8_scanner 72 = .ok (.aload_n 0, 1) := dk_42 (dk_at dksX8_scanner_3 3 rfl rfl)
theorem dX8_scanner_73 : decode cX8_scanner 73 = .ok (.invokevirtual 31, 3) := dk_182 0 31 (dk_at dksX8_scanner_3 4 rfl rfl)
theorem dX8_scanner_76 : decode cX8_scanner 76 = .ok (.return_, 1) := dk_177 (dk_at dksX8_scanner_3 7 rfl rfl)
abbrev cX8_chute : ByteArray := prog_15_method_4_code
def yX8_chute : MethodName := ⟨RX8, "chute", "()V"⟩
def dkwX8_chute_5 : List UInt8 := [182, 0, 35, 183, 0, 81, 185, 0, 84, 2, 0, 87, 177]
abbrev dktX8_chute_5 : List UInt8 := dkwX8_chute_5 ++ []
def dkwX8_chute_4 : List UInt8 := [187, 0, 79, 89, 42, 180, 0, 44, 180, 0, 66, 185, 0, 70, 1, 0, 27, 28, 29, 42, 3, 16, 9]
abbrev dktX8_chute_4 : List UInt8 := dkwX8_chute_4 ++ dktX8_chute_5
def dkwX8_chute_3 : List UInt8 := [42, 4, 16, 9, 182, 0, 35, 61, 42, 3, 6, 182, 0, 35, 62, 42, 180, 0, 44, 180, 0, 66]
abbrev dktX8_chute_3 : List UInt8 := dkwX8_chute_3 ++ dktX8_chute_4
def dkwX8_chute_2 : List UInt8 := [180, 0, 44, 27, 182, 0, 75, 2, 160, 0, 7, 4, 167, 0, 4, 3, 6, 182, 0, 27, 42, 182, 0, 31]
abbrev dktX8_chute_2 : List UInt8 := dkwX8_chute_2 ++ dktX8_chute_3
def dkwX8_chute_1 : List UInt8 := [182, 0, 27, 42, 182, 0, 31, 42, 3, 42, 180, 0, 44, 180, 0, 55, 4, 100, 182, 0, 59, 60, 42, 42]
abbrev dktX8_chute_1 : List UInt8 := dkwX8_chute_1 ++ dktX8_chute_2
def dkwX8_chute_0 : List UInt8 := [42, 42, 180, 0, 44, 180, 0, 66, 185, 0, 70, 1, 0, 16, 6, 162, 0, 7, 4, 167, 0, 4, 3, 7]
abbrev dktX8_chute_0 : List UInt8 := dkwX8_chute_0 ++ dktX8_chute_1
theorem dksX8_chute_0 : cX8_chute.data.toList.drop 0 = dktX8_chute_0 := by decide +kernel
theorem dksX8_chute_1 : cX8_chute.data.toList.drop 24 = dktX8_chute_1 := dk_seg dksX8_chute_0 24 rfl rfl
theorem dksX8_chute_2 : cX8_chute.data.toList.drop 48 = dktX8_chute_2 := dk_seg dksX8_chute_1 24 rfl rfl
theorem dksX8_chute_3 : cX8_chute.data.toList.drop 72 = dktX8_chute_3 := dk_seg dksX8_chute_2 24 rfl rfl
theorem dksX8_chute_4 : cX8_chute.data.toList.drop 94 = dktX8_chute_4 := dk_seg dksX8_chute_3 22 rfl rfl
theorem dksX8_chute_5 : cX8_chute.data.toList.drop 117 = dktX8_chute_5 := dk_seg dksX8_chute_4 23 rfl rfl
theorem dX8_chute_0 : decode cX8_chute 0 = .ok (.aload_n 0, 1) := dk_42 (dk_at dksX8_chute_0 0 rfl rfl)
theorem dX8_chute_1 : decode cX8_chute 1 = .ok (.aload_n 0, 1) := dk_42 (dk_at dksX8_chute_0 1 rfl rfl)
theorem dX8_chute_2 : decode cX8_chute 2 = .ok (.getfield 44, 3) := dk_180 0 44 (dk_at dksX8_chute_0 2 rfl rfl)
theorem dX8_chute_5 : decode cX8_chute 5 = .ok (.getfield 66, 3) := dk_180 0 66 (dk_at dksX8_chute_0 5 rfl rfl)
theorem dX8_chute_8 : decode cX8_chute 8 = .ok (.invokeinterface 70 1, 5) := by decide +kernel
theorem dX8_chute_13 : decode cX8_chute 13 = .ok (.bipush 6, 2) := dk_16 6 (dk_at dksX8_chute_0 13 rfl rfl)
theorem dX8_chute_15 : decode cX8_chute 15 = .ok (.if_icmp .ge 7, 3) := dk_162 0 7 (dk_at dksX8_chute_0 15 rfl rfl)
theorem dX8_chute_18 : decode cX8_chute 18 = .ok (.iconst 1, 1) := dk_4 (dk_at dksX8_chute_0 18 rfl rfl)
theorem dX8_chute_19 : decode cX8_chute 19 = .ok (.goto 4, 3) := dk_167 0 4 (dk_at dksX8_chute_0 19 rfl rfl)
theorem dX8_chute_22 : decode cX8_chute 22 = .ok (.iconst 0, 1) := dk_3 (dk_at dksX8_chute_0 22 rfl rfl)
theorem dX8_chute_23 : decode cX8_chute 23 = .ok (.iconst 4, 1) := dk_7 (dk_at dksX8_chute_0 23 rfl rfl)
theorem dX8_chute_24 : decode cX8_chute 24 = .ok (.invokevirtual 27, 3) := dk_182 0 27 (dk_at dksX8_chute_1 0 rfl rfl)
theorem dX8_chute_27 : decode cX8_chute 27 = .ok (.aload_n 0, 1) := dk_42 (dk_at dksX8_chute_1 3 rfl rfl)
theorem dX8_chute_28 : decode cX8_chute 28 = .ok (.invokevirtual 31, 3) := dk_182 0 31 (dk_at dksX8_chute_1 4 rfl rfl)
theorem dX8_chute_31 : decode cX8_chute 31 = .ok (.aload_n 0, 1) := dk_42 (dk_at dksX8_chute_1 7 rfl rfl)
theorem dX8_chute_32 : decode cX8_chute 32 = .ok (.iconst 0, 1) := dk_3 (dk_at dksX8_chute_1 8 rfl rfl)
theorem dX8_chute_33 : decode cX8_chute 33 = .ok (.aload_n 0, 1) := dk_42 (dk_at dksX8_chute_1 9 rfl rfl)
theorem dX8_chute_34 : decode cX8_chute 34 = .ok (.getfield 44, 3) := dk_180 0 44 (dk_at dksX8_chute_1 10 rfl rfl)
theorem dX8_chute_37 : decode cX8_chute 37 = .ok (.getfield 55, 3) := dk_180 0 55 (dk_at dksX8_chute_1 13 rfl rfl)
theorem dX8_chute_40 : decode cX8_chute 40 = .ok (.iconst 1, 1) := dk_4 (dk_at dksX8_chute_1 16 rfl rfl)
theorem dX8_chute_41 : decode cX8_chute 41 = .ok (.isub, 1) := dk_100 (dk_at dksX8_chute_1 17 rfl rfl)
theorem dX8_chute_42 : decode cX8_chute 42 = .ok (.invokevirtual 59, 3) := dk_182 0 59 (dk_at dksX8_chute_1 18 rfl rfl)
theorem dX8_chute_45 : decode cX8_chute 45 = .ok (.istore_n 1, 1) := dk_60 (dk_at dksX8_chute_1 21 rfl rfl)
theorem dX8_chute_46 : decode cX8_chute 46 = .ok (.aload_n 0, 1) := dk_42 (dk_at dksX8_chute_1 22 rfl rfl)
theorem dX8_chute_47 : decode cX8_chute 47 = .ok (.aload_n 0, 1) := dk_42 (dk_at dksX8_chute_1 23 rfl rfl)
theorem dX8_chute_48 : decode cX8_chute 48 = .ok (.getfield 44, 3) := dk_180 0 44 (dk_at dksX8_chute_2 0 rfl rfl)
theorem dX8_chute_51 : decode cX8_chute 51 = .ok (.iload_n 1, 1) := dk_27 (dk_at dksX8_chute_2 3 rfl rfl)
theorem dX8_chute_52 : decode cX8_chute 52 = .ok (.invokevirtual 75, 3) := dk_182 0 75 (dk_at dksX8_chute_2 4 rfl rfl)
theorem dX8_chute_55 : decode cX8_chute 55 = .ok (.iconst (-1), 1) := dk_2 (dk_at dksX8_chute_2 7 rfl rfl)
theorem dX8_chute_56 : decode cX8_chute 56 = .ok (.if_icmp .ne 7, 3) := dk_160 0 7 (dk_at dksX8_chute_2 8 rfl rfl)
theorem dX8_chute_59 : decode cX8_chute 59 = .ok (.iconst 1, 1) := dk_4 (dk_at dksX8_chute_2 11 rfl rfl)
theorem dX8_chute_60 : decode cX8_chute 60 = .ok (.goto 4, 3) := dk_167 0 4 (dk_at dksX8_chute_2 12 rfl rfl)
theorem dX8_chute_63 : decode cX8_chute 63 = .ok (.iconst 0, 1) := dk_3 (dk_at dksX8_chute_2 15 rfl rfl)
theorem dX8_chute_64 : decode cX8_chute 64 = .ok (.iconst 3, 1) := dk_6 (dk_at dksX8_chute_2 16 rfl rfl)
theorem dX8_chute_65 : decode cX8_chute 65 = .ok (.invokevirtual 27, 3) := dk_182 0 27 (dk_at dksX8_chute_2 17 rfl rfl)
theorem dX8_chute_68 : decode cX8_chute 68 = .ok (.aload_n 0, 1) := dk_42 (dk_at dksX8_chute_2 20 rfl rfl)
theorem dX8_chute_69 : decode cX8_chute 69 = .ok (.invokevirtual 31, 3) := dk_182 0 31 (dk_at dksX8_chute_2 21 rfl rfl)
theorem dX8_chute_72 : decode cX8_chute 72 = .ok (.aload_n 0, 1) := dk_42 (dk_at dksX8_chute_3 0 rfl rfl)
theorem dX8_chute_73 : decode cX8_chute 73 = .ok (.iconst 1, 1) := dk_4 (dk_at dksX8_chute_3 1 rfl rfl)
theorem dX8_chute_74 : decode cX8_chute 74 = .ok (.bipush 9, 2) := dk_16 9 (dk_at dksX8_chute_3 2 rfl rfl)
theorem dX8_chute_76 : decode cX8_chute 76 = .ok (.invokevirtual 35, 3) := dk_182 0 35 (dk_at dksX8_chute_3 4 rfl rfl)
theorem dX8_chute_79 : decode cX8_chute 79 = .ok (.istore_n 2, 1) := dk_61 (dk_at dksX8_chute_3 7 rfl rfl)
theorem dX8_chute_80 : decode cX8_chute 80 = .ok (.aload_n 0, 1) := dk_42 (dk_at dksX8_chute_3 8 rfl rfl)
theorem dX8_chute_81 : decode cX8_chute 81 = .ok (.iconst 0, 1) := dk_3 (dk_at dksX8_chute_3 9 rfl rfl)
theorem dX8_chute_82 : decode cX8_chute 82 = .ok (.iconst 3, 1) := dk_6 (dk_at dksX8_chute_3 10 rfl rfl)
theorem dX8_chute_83 : decode cX8_chute 83 = .ok (.invokevirtual 35, 3) := dk_182 0 35 (dk_at dksX8_chute_3 11 rfl rfl)
theorem dX8_chute_86 : decode cX8_chute 86 = .ok (.istore_n 3, 1) := dk_62 (dk_at dksX8_chute_3 14 rfl rfl)
theorem dX8_chute_87 : decode cX8_chute 87 = .ok (.aload_n 0, 1) := dk_42 (dk_at dksX8_chute_3 15 rfl rfl)
theorem dX8_chute_88 : decode cX8_chute 88 = .ok (.getfield 44, 3) := dk_180 0 44 (dk_at dksX8_chute_3 16 rfl rfl)
theorem dX8_chute_91 : decode cX8_chute 91 = .ok (.getfield 66, 3) := dk_180 0 66 (dk_at dksX8_chute_3 19 rfl rfl)
theorem dX8_chute_94 : decode cX8_chute 94 = .ok (.new 79, 3) := dk_187 0 79 (dk_at dksX8_chute_4 0 rfl rfl)
theorem dX8_chute_97 : decode cX8_chute 97 = .ok (.dup, 1) := dk_89 (dk_at dksX8_chute_4 3 rfl rfl)
theorem dX8_chute_98 : decode cX8_chute 98 = .ok (.aload_n 0, 1) := dk_42 (dk_at dksX8_chute_4 4 rfl rfl)
theorem dX8_chute_99 : decode cX8_chute 99 = .ok (.getfield 44, 3) := dk_180 0 44 (dk_at dksX8_chute_4 5 rfl rfl)
theorem dX8_chute_102 : decode cX8_chute 102 = .ok (.getfield 66, 3) := dk_180 0 66 (dk_at dksX8_chute_4 8 rfl rfl)
theorem dX8_chute_105 : decode cX8_chute 105 = .ok (.invokeinterface 70 1, 5) := by decide +kernel
theorem dX8_chute_110 : decode cX8_chute 110 = .ok (.iload_n 1, 1) := dk_27 (dk_at dksX8_chute_4 16 rfl rfl)
theorem dX8_chute_111 : decode cX8_chute 111 = .ok (.iload_n 2, 1) := dk_28 (dk_at dksX8_chute_4 17 rfl rfl)
theorem dX8_chute_112 : decode cX8_chute 112 = .ok (.iload_n 3, 1) := dk_29 (dk_at dksX8_chute_4 18 rfl rfl)
theorem dX8_chute_113 : decode cX8_chute 113 = .ok (.aload_n 0, 1) := dk_42 (dk_at dksX8_chute_4 19 rfl rfl)
theorem dX8_chute_114 : decode cX8_chute 114 = .ok (.iconst 0, 1) := dk_3 (dk_at dksX8_chute_4 20 rfl rfl)
theorem dX8_chute_115 : decode cX8_chute 115 = .ok (.bipush 9, 2) := dk_16 9 (dk_at dksX8_chute_4 21 rfl rfl)
theorem dX8_chute_117 : decode cX8_chute 117 = .ok (.invokevirtual 35, 3) := dk_182 0 35 (dk_at dksX8_chute_5 0 rfl rfl)
theorem dX8_chute_120 : decode cX8_chute 120 = .ok (.invokespecial 81, 3) := dk_183 0 81 (dk_at dksX8_chute_5 3 rfl rfl)
theorem dX8_chute_123 : decode cX8_chute 123 = .ok (.invokeinterface 84 2, 5) := by decide +kernel
theorem dX8_chute_128 : decode cX8_chute 128 = .ok (.pop, 1) := dk_87 (dk_at dksX8_chute_5 11 rfl rfl)
theorem dX8_chute_129 : decode cX8_chute 129 = .ok (.return_, 1) := dk_177 (dk_at dksX8_chute_5 12 rfl rfl)
theorem q176 : (Jvm.Cond.initialized "SortingLoop$Setup") ∈ lw_all := lw_g (lw_at lw_m1 39 rfl) rfl
theorem q617 : (Jvm.Cond.selects "SortingLoop$Setup" ({ cls := "java/lang/Object", name := "getClass", desc := "()Ljava/lang/Class;" } : Jvm.MethodName) ({ cls := "java/lang/Object", name := "getClass", desc := "()Ljava/lang/Class;" } : Jvm.MethodName)) ∈ lw_all := lw_g (lw_at lw_m3 0 rfl) rfl
theorem q685 : (Jvm.Cond.fieldLinkNest "SortingLoop$Setup" (55 : Nat) "SortingLoop$Loop" "cells" "I" "SortingLoop") ∈ lw_tbl := lw_at lw_m3 68 rfl
theorem q690 : (Jvm.Cond.fieldLinkNest "SortingLoop$Setup" (62 : Nat) "SortingLoop$Loop" "scanners" "[Z" "SortingLoop") ∈ lw_tbl := lw_at lw_m3 73 rfl
theorem q694 : (Jvm.Cond.fieldLinkNest "SortingLoop$Setup" (66 : Nat) "SortingLoop$Loop" "chutes" "Ljava/util/List;" "SortingLoop") ∈ lw_tbl := lw_at lw_m3 77 rfl
theorem q707 : (Jvm.Cond.fieldLinkNest "SortingLoop$Setup" (100 : Nat) "SortingLoop$Loop" "rounds" "I" "SortingLoop") ∈ lw_tbl := lw_at lw_m3 90 rfl
theorem q1378 : (Jvm.Cond.instantiable "SortingLoop$Setup" (8 : Nat)) ∈ lw_all := lw_g (lw_at lw_m6 41 rfl) rfl
theorem q1380 : (Jvm.Cond.instanceMethod ({ cls := "SortingLoop$Setup", name := "<init>", desc := "(LSortingLoop;)V" } : Jvm.MethodName)) ∈ lw_all := lw_g (lw_at lw_m6 43 rfl) rfl
theorem q1381 : (Jvm.Cond.code ({ cls := "SortingLoop$Setup", name := "<init>", desc := "(LSortingLoop;)V" } : Jvm.MethodName) prog_15_method_1_code (2 : Nat) (Option.none : Option Jvm.ClassFile.FieldType)) ∈ lw_all := lw_g (lw_at lw_m6 44 rfl) rfl
theorem q1382 : (Jvm.Cond.methodLink "SortingLoop$Setup" (9 : Nat) ({ cls := "SortingLoop$Parser", name := "<init>", desc := "(LSortingLoop;)V" } : Jvm.MethodName)) ∈ lw_all := lw_g (lw_at lw_m6 45 rfl) rfl
theorem q1391 : (Jvm.Cond.selects "SortingLoop$Setup" ({ cls := "SortingLoop$Parser", name := "advance", desc := "()V" } : Jvm.MethodName) ({ cls := "SortingLoop$Parser", name := "advance", desc := "()V" } : Jvm.MethodName)) ∈ lw_all := lw_g (lw_at lw_m6 54 rfl) rfl
theorem q1517 : (Jvm.Cond.fieldLink "SortingLoop$Setup" (44 : Nat) "SortingLoop$Setup" "made" "LSortingLoop$Loop;") ∈ lw_all := lw_g (lw_at lw_m6 180 rfl) rfl
theorem q1518 : (Jvm.Cond.fieldLink "SortingLoop$Setup" (3 : Nat) "SortingLoop$Setup" "this$0" "LSortingLoop;") ∈ lw_all := lw_g (lw_at lw_m6 181 rfl) rfl
theorem q1525 : (Jvm.Cond.lays "SortingLoop$Setup" "SortingLoop$Setup" "made" "LSortingLoop$Loop;") ∈ lw_all := lw_g (lw_at lw_m6 188 rfl) rfl
theorem q1526 : (Jvm.Cond.soleField "SortingLoop$Setup" "made") ∈ lw_all := lw_g (lw_at lw_m6 189 rfl) rfl
theorem q1527 : (Jvm.Cond.laysFinal "SortingLoop$Setup" "SortingLoop$Setup" "this$0" "LSortingLoop;") ∈ lw_all := lw_g (lw_at lw_m6 190 rfl) rfl
theorem q1528 : (Jvm.Cond.soleField "SortingLoop$Setup" "this$0") ∈ lw_all := lw_g (lw_at lw_m6 191 rfl) rfl
theorem q1529 : (Jvm.Cond.lays "SortingLoop$Setup" "SortingLoop$Parser" "start" "I") ∈ lw_all := lw_g (lw_at lw_m6 192 rfl) rfl
theorem q1531 : (Jvm.Cond.lays "SortingLoop$Setup" "SortingLoop$Parser" "next" "I") ∈ lw_all := lw_g (lw_at lw_m6 194 rfl) rfl
theorem q1533 : (Jvm.Cond.lays "SortingLoop$Setup" "SortingLoop$Parser" "token" "I") ∈ lw_all := lw_g (lw_at lw_m6 196 rfl) rfl
theorem q1535 : (Jvm.Cond.lays "SortingLoop$Setup" "SortingLoop$Parser" "value" "I") ∈ lw_all := lw_g (lw_at lw_m6 198 rfl) rfl
theorem q1537 : (Jvm.Cond.lays "SortingLoop$Setup" "SortingLoop$Parser" "word" "Ljava/lang/String;") ∈ lw_all := lw_g (lw_at lw_m6 200 rfl) rfl
theorem q1539 : (Jvm.Cond.laysFinal "SortingLoop$Setup" "SortingLoop$Parser" "this$0" "LSortingLoop;") ∈ lw_all := lw_g (lw_at lw_m6 202 rfl) rfl
theorem q1541 : (Jvm.Cond.superclass "SortingLoop$Setup" "SortingLoop$Parser") ∈ lw_all := lw_g (lw_at lw_m6 204 rfl) rfl
theorem q1543 : (Jvm.Cond.instanceMethod ({ cls := "SortingLoop$Setup", name := "read", desc := "()LSortingLoop$Loop;" } : Jvm.MethodName)) ∈ lw_all := lw_g (lw_at lw_m6 206 rfl) rfl
theorem q1544 : (Jvm.Cond.selects "SortingLoop$Setup" ({ cls := "SortingLoop$Setup", name := "read", desc := "()LSortingLoop$Loop;" } : Jvm.MethodName) ({ cls := "SortingLoop$Setup", name := "read", desc := "()LSortingLoop$Loop;" } : Jvm.MethodName)) ∈ lw_all := lw_g (lw_at lw_m6 207 rfl) rfl
theorem q1545 : (Jvm.Cond.code ({ cls := "SortingLoop$Setup", name := "read", desc := "()LSortingLoop$Loop;" } : Jvm.MethodName) prog_15_method_6_code (1 : Nat) (Option.some (Jvm.ClassFile.FieldType.object "SortingLoop$Loop"))) ∈ lw_all := lw_g (lw_at lw_m6 208 rfl) rfl
theorem q1546 : (Jvm.Cond.methodLink "SortingLoop$Setup" (102 : Nat) ({ cls := "SortingLoop$Setup", name := "loop", desc := "()V" } : Jvm.MethodName)) ∈ lw_all := lw_g (lw_at lw_m6 209 rfl) rfl
theorem q1547 : (Jvm.Cond.privateMethod ({ cls := "SortingLoop$Setup", name := "loop", desc := "()V" } : Jvm.MethodName)) ∈ lw_tbl := lw_at lw_m6 210 rfl
theorem q1548 : (Jvm.Cond.instanceMethod ({ cls := "SortingLoop$Setup", name := "loop", desc := "()V" } : Jvm.MethodName)) ∈ lw_all := lw_g (lw_at lw_m6 211 rfl) rfl
theorem q1549 : (Jvm.Cond.code ({ cls := "SortingLoop$Setup", name := "loop", desc := "()V" } : Jvm.MethodName) prog_15_method_2_code (2 : Nat) (Option.none : Option Jvm.ClassFile.FieldType)) ∈ lw_all := lw_g (lw_at lw_m6 212 rfl) rfl
theorem q1550 : (Jvm.Cond.methodLink "SortingLoop$Setup" (15 : Nat) ({ cls := "SortingLoop$Setup", name := "word", desc := "()Ljava/lang/String;" } : Jvm.MethodName)) ∈ lw_all := lw_g (lw_at lw_m6 213 rfl) rfl
theorem q1551 : (Jvm.Cond.sameMethod "SortingLoop$Setup" "SortingLoop$Parser" "word" "()Ljava/lang/String;") ∈ lw_all := lw_g (lw_at lw_m6 214 rfl) rfl
theorem q1553 : (Jvm.Cond.selects "SortingLoop$Setup" ({ cls := "SortingLoop$Setup", name := "word", desc := "()Ljava/lang/String;" } : Jvm.MethodName) ({ cls := "SortingLoop$Parser", name := "word", desc := "()Ljava/lang/String;" } : Jvm.MethodName)) ∈ lw_all := lw_g (lw_at lw_m6 216 rfl) rfl
theorem q1556 : (Jvm.Cond.stringRef "SortingLoop$Setup" (19 : Nat) "loop") ∈ lw_tbl := lw_at lw_m6 219 rfl
theorem q1557 : (Jvm.Cond.methodLink "SortingLoop$Setup" (21 : Nat) ({ cls := "java/lang/String", name := "equals", desc := "(Ljava/lang/Object;)Z" } : Jvm.MethodName)) ∈ lw_all := lw_g (lw_at lw_m6 220 rfl) rfl
theorem q1565 : (Jvm.Cond.methodLink "SortingLoop$Setup" (27 : Nat) ({ cls := "SortingLoop$Setup", name := "expect", desc := "(ZI)V" } : Jvm.MethodName)) ∈ lw_all := lw_g (lw_at lw_m6 228 rfl) rfl
theorem q1566 : (Jvm.Cond.sameMethod "SortingLoop$Setup" "SortingLoop$Parser" "expect" "(ZI)V") ∈ lw_all := lw_g (lw_at lw_m6 229 rfl) rfl
theorem q1568 : (Jvm.Cond.selects "SortingLoop$Setup" ({ cls := "SortingLoop$Setup", name := "expect", desc := "(ZI)V" } : Jvm.MethodName) ({ cls := "SortingLoop$Parser", name := "expect", desc := "(ZI)V" } : Jvm.MethodName)) ∈ lw_all := lw_g (lw_at lw_m6 231 rfl) rfl
theorem q1599 : (Jvm.Cond.methodLink "SortingLoop$Setup" (31 : Nat) ({ cls := "SortingLoop$Setup", name := "advance", desc := "()V" } : Jvm.MethodName)) ∈ lw_all := lw_g (lw_at lw_m7 22 rfl) rfl
theorem q1600 : (Jvm.Cond.sameMethod "SortingLoop$Setup" "SortingLoop$Parser" "advance" "()V") ∈ lw_all := lw_g (lw_at lw_m7 23 rfl) rfl
theorem q1602 : (Jvm.Cond.selects "SortingLoop$Setup" ({ cls := "SortingLoop$Setup", name := "advance", desc := "()V" } : Jvm.MethodName) ({ cls := "SortingLoop$Parser", name := "advance", desc := "()V" } : Jvm.MethodName)) ∈ lw_all := lw_g (lw_at lw_m7 25 rfl) rfl
theorem q1603 : (Jvm.Cond.methodLink "SortingLoop$Setup" (35 : Nat) ({ cls := "SortingLoop$Setup", name := "number", desc := "(II)I" } : Jvm.MethodName)) ∈ lw_all := lw_g (lw_at lw_m7 26 rfl) rfl
theorem q1604 : (Jvm.Cond.sameMethod "SortingLoop$Setup" "SortingLoop$Parser" "number" "(II)I") ∈ lw_all := lw_g (lw_at lw_m7 27 rfl) rfl
theorem q1606 : (Jvm.Cond.selects "SortingLoop$Setup" ({ cls := "SortingLoop$Setup", name := "number", desc := "(II)I" } : Jvm.MethodName) ({ cls := "SortingLoop$Parser", name := "number", desc := "(II)I" } : Jvm.MethodName)) ∈ lw_all := lw_g (lw_at lw_m7 29 rfl) rfl
theorem q1613 : (Jvm.Cond.selects "SortingLoop$Setup" ({ cls := "SortingLoop$Parser", name := "numberHere", desc := "(II)I" } : Jvm.MethodName) ({ cls := "SortingLoop$Parser", name := "numberHere", desc := "(II)I" } : Jvm.MethodName)) ∈ lw_all := lw_g (lw_at lw_m7 36 rfl) rfl
theorem q1616 : (Jvm.Cond.classLink "SortingLoop$Setup" (39 : Nat) "SortingLoop$Loop") ∈ lw_all := lw_g (lw_at lw_m7 39 rfl) rfl
theorem q1617 : (Jvm.Cond.methodLink "SortingLoop$Setup" (41 : Nat) ({ cls := "SortingLoop$Loop", name := "<init>", desc := "(II)V" } : Jvm.MethodName)) ∈ lw_all := lw_g (lw_at lw_m7 40 rfl) rfl
theorem q1618 : (Jvm.Cond.methodLink "SortingLoop$Setup" (48 : Nat) ({ cls := "SortingLoop$Setup", name := "end", desc := "()V" } : Jvm.MethodName)) ∈ lw_all := lw_g (lw_at lw_m7 41 rfl) rfl
theorem q1619 : (Jvm.Cond.sameMethod "SortingLoop$Setup" "SortingLoop$Parser" "end" "()V") ∈ lw_all := lw_g (lw_at lw_m7 42 rfl) rfl
theorem q1621 : (Jvm.Cond.selects "SortingLoop$Setup" ({ cls := "SortingLoop$Setup", name := "end", desc := "()V" } : Jvm.MethodName) ({ cls := "SortingLoop$Parser", name := "end", desc := "()V" } : Jvm.MethodName)) ∈ lw_all := lw_g (lw_at lw_m7 44 rfl) rfl
theorem q1624 : (Jvm.Cond.methodLink "SortingLoop$Setup" (104 : Nat) ({ cls := "SortingLoop$Setup", name := "isOver", desc := "()Z" } : Jvm.MethodName)) ∈ lw_all := lw_g (lw_at lw_m7 47 rfl) rfl
theorem q1625 : (Jvm.Cond.sameMethod "SortingLoop$Setup" "SortingLoop$Parser" "isOver" "()Z") ∈ lw_all := lw_g (lw_at lw_m7 48 rfl) rfl
theorem q1627 : (Jvm.Cond.selects "SortingLoop$Setup" ({ cls := "SortingLoop$Setup", name := "isOver", desc := "()Z" } : Jvm.MethodName) ({ cls := "SortingLoop$Parser", name := "isOver", desc := "()Z" } : Jvm.MethodName)) ∈ lw_all := lw_g (lw_at lw_m7 50 rfl) rfl
theorem q1630 : (Jvm.Cond.methodLink "SortingLoop$Setup" (108 : Nat) ({ cls := "SortingLoop$Setup", name := "statement", desc := "(Ljava/lang/String;)V" } : Jvm.MethodName)) ∈ lw_all := lw_g (lw_at lw_m7 53 rfl) rfl
theorem q1631 : (Jvm.Cond.privateMethod ({ cls := "SortingLoop$Setup", name := "statement", desc := "(Ljava/lang/String;)V" } : Jvm.MethodName)) ∈ lw_tbl := lw_at lw_m7 54 rfl
theorem q1632 : (Jvm.Cond.instanceMethod ({ cls := "SortingLoop$Setup", name := "statement", desc := "(Ljava/lang/String;)V" } : Jvm.MethodName)) ∈ lw_all := lw_g (lw_at lw_m7 55 rfl) rfl
theorem q1633 : (Jvm.Cond.code ({ cls := "SortingLoop$Setup", name := "statement", desc := "(Ljava/lang/String;)V" } : Jvm.MethodName) prog_15_method_5_code (4 : Nat) (Option.none : Option Jvm.ClassFile.FieldType)) ∈ lw_all := lw_g (lw_at lw_m7 56 rfl) rfl
theorem q1634 : (Jvm.Cond.methodLink "SortingLoop$Setup" (87 : Nat) ({ cls := "java/lang/String", name := "hashCode", desc := "()I" } : Jvm.MethodName)) ∈ lw_all := lw_g (lw_at lw_m7 57 rfl) rfl
theorem q1691 : (Jvm.Cond.stringRef "SortingLoop$Setup" (90 : Nat) "scanner") ∈ lw_tbl := lw_at lw_m7 114 rfl
theorem q1692 : (Jvm.Cond.stringRef "SortingLoop$Setup" (92 : Nat) "chute") ∈ lw_tbl := lw_at lw_m7 115 rfl
theorem q1693 : (Jvm.Cond.stringRef "SortingLoop$Setup" (94 : Nat) "rounds") ∈ lw_tbl := lw_at lw_m7 116 rfl
theorem q1694 : (Jvm.Cond.methodLink "SortingLoop$Setup" (96 : Nat) ({ cls := "SortingLoop$Setup", name := "scanner", desc := "()V" } : Jvm.MethodName)) ∈ lw_all := lw_g (lw_at lw_m7 117 rfl) rfl
theorem q1695 : (Jvm.Cond.privateMethod ({ cls := "SortingLoop$Setup", name := "scanner", desc := "()V" } : Jvm.MethodName)) ∈ lw_tbl := lw_at lw_m7 118 rfl
theorem q1696 : (Jvm.Cond.instanceMethod ({ cls := "SortingLoop$Setup", name := "scanner", desc := "()V" } : Jvm.MethodName)) ∈ lw_all := lw_g (lw_at lw_m7 119 rfl) rfl
theorem q1697 : (Jvm.Cond.code ({ cls := "SortingLoop$Setup", name := "scanner", desc := "()V" } : Jvm.MethodName) prog_15_method_3_code (2 : Nat) (Option.none : Option Jvm.ClassFile.FieldType)) ∈ lw_all := lw_g (lw_at lw_m7 120 rfl) rfl
theorem q1698 : (Jvm.Cond.methodLink "SortingLoop$Setup" (51 : Nat) ({ cls := "SortingLoop$Loop", name := "scannerMany", desc := "()I" } : Jvm.MethodName)) ∈ lw_all := lw_g (lw_at lw_m7 121 rfl) rfl
theorem q1705 : (Jvm.Cond.methodLink "SortingLoop$Setup" (59 : Nat) ({ cls := "SortingLoop$Setup", name := "numberHere", desc := "(II)I" } : Jvm.MethodName)) ∈ lw_all := lw_g (lw_at lw_m7 128 rfl) rfl
theorem q1706 : (Jvm.Cond.sameMethod "SortingLoop$Setup" "SortingLoop$Parser" "numberHere" "(II)I") ∈ lw_all := lw_g (lw_at lw_m7 129 rfl) rfl
theorem q1708 : (Jvm.Cond.selects "SortingLoop$Setup" ({ cls := "SortingLoop$Setup", name := "numberHere", desc := "(II)I" } : Jvm.MethodName) ({ cls := "SortingLoop$Parser", name := "numberHere", desc := "(II)I" } : Jvm.MethodName)) ∈ lw_all := lw_g (lw_at lw_m7 131 rfl) rfl
theorem q1709 : (Jvm.Cond.methodLink "SortingLoop$Setup" (98 : Nat) ({ cls := "SortingLoop$Setup", name := "chute", desc := "()V" } : Jvm.MethodName)) ∈ lw_all := lw_g (lw_at lw_m7 132 rfl) rfl
theorem q1710 : (Jvm.Cond.privateMethod ({ cls := "SortingLoop$Setup", name := "chute", desc := "()V" } : Jvm.MethodName)) ∈ lw_tbl := lw_at lw_m7 133 rfl
theorem q1711 : (Jvm.Cond.instanceMethod ({ cls := "SortingLoop$Setup", name := "chute", desc := "()V" } : Jvm.MethodName)) ∈ lw_all := lw_g (lw_at lw_m7 134 rfl) rfl
theorem q1712 : (Jvm.Cond.code ({ cls := "SortingLoop$Setup", name := "chute", desc := "()V" } : Jvm.MethodName) prog_15_method_4_code (4 : Nat) (Option.none : Option Jvm.ClassFile.FieldType)) ∈ lw_all := lw_g (lw_at lw_m7 135 rfl) rfl
theorem q1713 : (Jvm.Cond.interfaceEntry "SortingLoop$Setup" (70 : Nat)) ∈ lw_tbl := lw_at lw_m7 136 rfl
theorem q1714 : (Jvm.Cond.methodLink "SortingLoop$Setup" (70 : Nat) ({ cls := "java/util/List", name := "size", desc := "()I" } : Jvm.MethodName)) ∈ lw_all := lw_g (lw_at lw_m7 137 rfl) rfl
theorem q1715 : (Jvm.Cond.methodLink "SortingLoop$Setup" (75 : Nat) ({ cls := "SortingLoop$Loop", name := "chuteAt", desc := "(I)I" } : Jvm.MethodName)) ∈ lw_all := lw_g (lw_at lw_m7 138 rfl) rfl
theorem q1719 : (Jvm.Cond.classLink "SortingLoop$Setup" (79 : Nat) "SortingLoop$Chute") ∈ lw_all := lw_g (lw_at lw_m7 142 rfl) rfl
theorem q1720 : (Jvm.Cond.methodLink "SortingLoop$Setup" (81 : Nat) ({ cls := "SortingLoop$Chute", name := "<init>", desc := "(IIIII)V" } : Jvm.MethodName)) ∈ lw_all := lw_g (lw_at lw_m7 143 rfl) rfl
theorem q1721 : (Jvm.Cond.interfaceEntry "SortingLoop$Setup" (84 : Nat)) ∈ lw_tbl := lw_at lw_m7 144 rfl
theorem q1722 : (Jvm.Cond.methodLink "SortingLoop$Setup" (84 : Nat) ({ cls := "java/util/List", name := "add", desc := "(Ljava/lang/Object;)Z" } : Jvm.MethodName)) ∈ lw_all := lw_g (lw_at lw_m7 145 rfl) rfl
theorem q1723 : (Jvm.Cond.interfaceEntry "SortingLoop$Setup" (112 : Nat)) ∈ lw_tbl := lw_at lw_m7 146 rfl
theorem q1724 : (Jvm.Cond.methodLink "SortingLoop$Setup" (112 : Nat) ({ cls := "java/util/List", name := "isEmpty", desc := "()Z" } : Jvm.MethodName)) ∈ lw_all := lw_g (lw_at lw_m7 147 rfl) rfl
theorem q2218 : (Jvm.Cond.selects "SortingLoop$Setup" ({ cls := "java/lang/Object", name := "equals", desc := "(Ljava/lang/Object;)Z" } : Jvm.MethodName) ({ cls := "java/lang/Object", name := "equals", desc := "(Ljava/lang/Object;)Z" } : Jvm.MethodName)) ∈ lw_all := lw_g (lw_at lw_m9 161 rfl) rfl
theorem q3337 : (Jvm.Cond.selects "SortingLoop$Setup" ({ cls := "SortingLoop$Parser", name := "expect", desc := "(ZI)V" } : Jvm.MethodName) ({ cls := "SortingLoop$Parser", name := "expect", desc := "(ZI)V" } : Jvm.MethodName)) ∈ lw_all := lw_g (lw_at lw_m14 80 rfl) rfl
theorem q3375 : (Jvm.Cond.castable "SortingLoop$Setup" "java/lang/Object") ∈ lw_tbl := lw_at lw_m14 118 rfl
theorem in_X8 : ∀ w ∈ wsX80, w ∈ lw_all := lw_in wsX80 [1529, 1531, 1533, 1535, 1537, 1539, 1525, 1527] (by decide +kernel) (by decide +kernel)

/-! SortingLoop$ParseException -/
set_option maxRecDepth 100000
def RX9 : String := "SortingLoop$ParseException"
def TX9 : u_T := fun k => match k with
  | 0 => ("java/lang/Throwable", "cause", "Ljava/lang/Throwable;", false)
  | 1 => ("java/lang/Throwable", "stackTrace", "[Ljava/lang/StackTraceElement;", false)
  | 2 => ("java/lang/Throwable", "suppressedExceptions", "Ljava/util/List;", false)
  | 3 => ("java/lang/Throwable", "detailMessage", "Ljava/lang/String;", false)
  | 4 => ("java/lang/Throwable", "backtrace", "Ljava/lang/Object;", false)
  | 5 => ("java/lang/Throwable", "depth", "I", false)
  | 6 => ("SortingLoop$ParseException", "code", "I", true)
  | _ => ("SortingLoop$ParseException", "offset", "I", true)
def tyX9 : Nat → FieldType := fun k => match k with
  | 0 => .object "java/lang/Throwable"
  | 1 => .array (.object "java/lang/StackTraceElement")
  | 2 => .object "java/util/List"
  | 3 => .object "java/lang/String"
  | 4 => .object "java/lang/Object"
  | 5 => .int
  | 6 => .int
  | _ => .int
abbrev wsX90 : List Cond := u_ws RX9 TX9 8
theorem nmX9 : ∀ a, a < 8 → ∀ b, b < 8 → a ≠ b → (TX9 a).2.1 ≠ (TX9 b).2.1 := by decide +kernel
theorem tyX9_ok : ∀ k, k < 8 → parseFieldDescriptor (TX9 k).2.2.1 = some (tyX9 k) := by decide +kernel
abbrev cX9_init : ByteArray := prog_9_method_1_code
def yX9_init : MethodName := ⟨RX9, "<init>", "(II)V"⟩
def dkwX9_init_0 : List UInt8 := [42, 1, 1, 3, 3, 183, 0, 1, 42, 27, 181, 0, 7, 42, 28, 181, 0, 13, 177]
abbrev dktX9_init_0 : List UInt8 := dkwX9_init_0 ++ []
theorem dksX9_init_0 : cX9_init.data.toList.drop 0 = dktX9_init_0 := by decide +kernel
theorem dX9_init_0 : decode cX9_init 0 = .ok (.aload_n 0, 1) := dk_42 (dk_at dksX9_init_0 0 rfl rfl)
theorem dX9_init_1 : decode cX9_init 1 = .ok (.aconst_null, 1) := dk_1 (dk_at dksX9_init_0 1 rfl rfl)
theorem dX9_init_2 : decode cX9_init 2 = .ok (.aconst_null, 1) := dk_1 (dk_at dksX9_init_0 2 rfl rfl)
theorem dX9_init_3 : decode cX9_init 3 = .ok (.iconst 0, 1) := dk_3 (dk_at dksX9_init_0 3 rfl rfl)
theorem dX9_init_4 : decode cX9_init 4 = .ok (.iconst 0, 1) := dk_3 (dk_at dksX9_init_0 4 rfl rfl)
theorem dX9_init_5 : decode cX9_init 5 = .ok (.invokespecial 1, 3) := dk_183 0 1 (dk_at dksX9_init_0 5 rfl rfl)
theorem dX9_init_8 : decode cX9_init 8 = .ok (.aload_n 0, 1) := dk_42 (dk_at dksX9_init_0 8 rfl rfl)
theorem dX9_init_9 : decode cX9_init 9 = .ok (.iload_n 1, 1) := dk_27 (dk_at dksX9_init_0 9 rfl rfl)
theorem dX9_init_10 : decode cX9_init 10 = .ok (.putfield 7, 3) := dk_181 0 7 (dk_at dksX9_init_0 10 rfl rfl)
theorem dX9_init_13 : decode cX9_init 13 = .ok (.aload_n 0, 1) := dk_42 (dk_at dksX9_init_0 13 rfl rfl)
theorem dX9_init_14 : decode cX9_init 14 = .ok (.iload_n 2, 1) := dk_28 (dk_at dksX9_init_0 14 rfl rfl)
theorem dX9_init_15 : decode cX9_init 15 = .ok (.putfield 13, 3) := dk_181 0 13 (dk_at dksX9_init_0 15 rfl rfl)
theorem dX9_init_18 : decode cX9_init 18 = .ok (.return_, 1) := dk_177 (dk_at dksX9_init_0 18 rfl rfl)
theorem q181 : (Jvm.Cond.initialized "SortingLoop$ParseException") ∈ lw_all := lw_g (lw_at lw_m1 44 rfl) rfl
theorem q259 : (Jvm.Cond.selects "SortingLoop$ParseException" ({ cls := "java/lang/Throwable", name := "fillInStackTrace", desc := "()Ljava/lang/Throwable;" } : Jvm.MethodName) ({ cls := "java/lang/Throwable", name := "fillInStackTrace", desc := "()Ljava/lang/Throwable;" } : Jvm.MethodName)) ∈ lw_all := lw_g (lw_at lw_m1 122 rfl) rfl
theorem q612 : (Jvm.Cond.selects "SortingLoop$ParseException" ({ cls := "java/lang/Object", name := "getClass", desc := "()Ljava/lang/Class;" } : Jvm.MethodName) ({ cls := "java/lang/Object", name := "getClass", desc := "()Ljava/lang/Class;" } : Jvm.MethodName)) ∈ lw_all := lw_g (lw_at lw_m2 235 rfl) rfl
theorem q1244 : (Jvm.Cond.selects "SortingLoop$ParseException" ({ cls := "java/lang/Throwable", name := "toString", desc := "()Ljava/lang/String;" } : Jvm.MethodName) ({ cls := "java/lang/Throwable", name := "toString", desc := "()Ljava/lang/String;" } : Jvm.MethodName)) ∈ lw_all := lw_g (lw_at lw_m5 147 rfl) rfl
theorem q1257 : (Jvm.Cond.selects "SortingLoop$ParseException" ({ cls := "java/lang/Throwable", name := "getLocalizedMessage", desc := "()Ljava/lang/String;" } : Jvm.MethodName) ({ cls := "java/lang/Throwable", name := "getLocalizedMessage", desc := "()Ljava/lang/String;" } : Jvm.MethodName)) ∈ lw_all := lw_g (lw_at lw_m5 160 rfl) rfl
theorem q1269 : (Jvm.Cond.selects "SortingLoop$ParseException" ({ cls := "java/lang/Throwable", name := "getMessage", desc := "()Ljava/lang/String;" } : Jvm.MethodName) ({ cls := "java/lang/Throwable", name := "getMessage", desc := "()Ljava/lang/String;" } : Jvm.MethodName)) ∈ lw_all := lw_g (lw_at lw_m5 172 rfl) rfl
theorem q1572 : (Jvm.Cond.instantiable "SortingLoop$ParseException" (8 : Nat)) ∈ lw_all := lw_g (lw_at lw_m6 235 rfl) rfl
theorem q1573 : (Jvm.Cond.castable "SortingLoop$ParseException" "SortingLoop$ParseException") ∈ lw_tbl := lw_at lw_m6 236 rfl
theorem q1574 : (Jvm.Cond.selects "SortingLoop$ParseException" ({ cls := "java/lang/Throwable", name := "fillInStackTrace", desc := "(I)Ljava/lang/Throwable;" } : Jvm.MethodName) ({ cls := "java/lang/Throwable", name := "fillInStackTrace", desc := "(I)Ljava/lang/Throwable;" } : Jvm.MethodName)) ∈ lw_all := lw_g (lw_at lw_m6 237 rfl) rfl
theorem q1575 : (Jvm.Cond.lays "SortingLoop$ParseException" "java/lang/Throwable" "cause" "Ljava/lang/Throwable;") ∈ lw_all := lw_g (lw_at lw_m6 238 rfl) rfl
theorem q1576 : (Jvm.Cond.lays "SortingLoop$ParseException" "java/lang/Throwable" "stackTrace" "[Ljava/lang/StackTraceElement;") ∈ lw_all := lw_g (lw_at lw_m6 239 rfl) rfl
theorem q1577 : (Jvm.Cond.lays "SortingLoop$ParseException" "java/lang/Throwable" "suppressedExceptions" "Ljava/util/List;") ∈ lw_all := lw_g (lw_at lw_m7 0 rfl) rfl
theorem q1578 : (Jvm.Cond.lays "SortingLoop$ParseException" "java/lang/Throwable" "detailMessage" "Ljava/lang/String;") ∈ lw_all := lw_g (lw_at lw_m7 1 rfl) rfl
theorem q1579 : (Jvm.Cond.lays "SortingLoop$ParseException" "java/lang/Throwable" "backtrace" "Ljava/lang/Object;") ∈ lw_all := lw_g (lw_at lw_m7 2 rfl) rfl
theorem q1581 : (Jvm.Cond.instanceMethod ({ cls := "SortingLoop$ParseException", name := "<init>", desc := "(II)V" } : Jvm.MethodName)) ∈ lw_all := lw_g (lw_at lw_m7 4 rfl) rfl
theorem q1582 : (Jvm.Cond.code ({ cls := "SortingLoop$ParseException", name := "<init>", desc := "(II)V" } : Jvm.MethodName) prog_9_method_1_code (3 : Nat) (Option.none : Option Jvm.ClassFile.FieldType)) ∈ lw_all := lw_g (lw_at lw_m7 5 rfl) rfl
theorem q1583 : (Jvm.Cond.methodLink "SortingLoop$ParseException" (1 : Nat) ({ cls := "java/lang/Exception", name := "<init>", desc := "(Ljava/lang/String;Ljava/lang/Throwable;ZZ)V" } : Jvm.MethodName)) ∈ lw_all := lw_g (lw_at lw_m7 6 rfl) rfl
theorem q1589 : (Jvm.Cond.fieldLink "SortingLoop$ParseException" (7 : Nat) "SortingLoop$ParseException" "code" "I") ∈ lw_all := lw_g (lw_at lw_m7 12 rfl) rfl
theorem q1591 : (Jvm.Cond.fieldLink "SortingLoop$ParseException" (13 : Nat) "SortingLoop$ParseException" "offset" "I") ∈ lw_all := lw_g (lw_at lw_m7 14 rfl) rfl
theorem q1593 : (Jvm.Cond.laysFinal "SortingLoop$ParseException" "SortingLoop$ParseException" "code" "I") ∈ lw_all := lw_g (lw_at lw_m7 16 rfl) rfl
theorem q1594 : (Jvm.Cond.soleField "SortingLoop$ParseException" "code") ∈ lw_all := lw_g (lw_at lw_m7 17 rfl) rfl
theorem q1595 : (Jvm.Cond.laysFinal "SortingLoop$ParseException" "SortingLoop$ParseException" "offset" "I") ∈ lw_all := lw_g (lw_at lw_m7 18 rfl) rfl
theorem q1596 : (Jvm.Cond.soleField "SortingLoop$ParseException" "offset") ∈ lw_all := lw_g (lw_at lw_m7 19 rfl) rfl
theorem q1597 : (Jvm.Cond.lays "SortingLoop$ParseException" "java/lang/Throwable" "depth" "I") ∈ lw_all := lw_g (lw_at lw_m7 20 rfl) rfl
theorem q1598 : (Jvm.Cond.superclass "SortingLoop$ParseException" "java/lang/Exception") ∈ lw_all := lw_g (lw_at lw_m7 21 rfl) rfl
theorem q2213 : (Jvm.Cond.selects "SortingLoop$ParseException" ({ cls := "java/lang/Object", name := "equals", desc := "(Ljava/lang/Object;)Z" } : Jvm.MethodName) ({ cls := "java/lang/Object", name := "equals", desc := "(Ljava/lang/Object;)Z" } : Jvm.MethodName)) ∈ lw_all := lw_g (lw_at lw_m9 156 rfl) rfl
theorem q3378 : (Jvm.Cond.castable "SortingLoop$ParseException" "java/lang/Object") ∈ lw_tbl := lw_at lw_m14 121 rfl
theorem in_X9 : ∀ w ∈ wsX90, w ∈ lw_all := lw_in wsX90 [1575, 1576, 1577, 1578, 1579, 1597, 1593, 1595] (by decide +kernel) (by decide +kernel)

