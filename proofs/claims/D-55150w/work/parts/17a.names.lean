set_option maxRecDepth 100000
/-! JumpHallLaw -/
def RX0 : String := "JumpHallLaw"
abbrev cX0_mat : ByteArray := method_3_code
def yX0_mat : MethodName := ⟨RX0, "mat", "(LJumpHall;[J)I"⟩
def dkwX0_mat_0 : List UInt8 := [43, 3, 42, 182, 0, 7, 133, 80, 167, 0, 6, 77, 4, 172, 3, 172]
abbrev dktX0_mat_0 : List UInt8 := dkwX0_mat_0 ++ []
theorem dksX0_mat_0 : cX0_mat.data.toList.drop 0 = dktX0_mat_0 := by decide +kernel
theorem dX0_mat_0 : decode cX0_mat 0 = .ok (.aload_n 1, 1) := dk_43 (dk_at dksX0_mat_0 0 rfl rfl)
theorem dX0_mat_1 : decode cX0_mat 1 = .ok (.iconst 0, 1) := dk_3 (dk_at dksX0_mat_0 1 rfl rfl)
theorem dX0_mat_2 : decode cX0_mat 2 = .ok (.aload_n 0, 1) := dk_42 (dk_at dksX0_mat_0 2 rfl rfl)
theorem dX0_mat_3 : decode cX0_mat 3 = .ok (.invokevirtual 7, 3) := dk_182 0 7 (dk_at dksX0_mat_0 3 rfl rfl)
theorem dX0_mat_6 : decode cX0_mat 6 = .ok (.i2l, 1) := dk_133 (dk_at dksX0_mat_0 6 rfl rfl)
theorem dX0_mat_7 : decode cX0_mat 7 = .ok (.lastore, 1) := dk_80 (dk_at dksX0_mat_0 7 rfl rfl)
theorem dX0_mat_8 : decode cX0_mat 8 = .ok (.goto 6, 3) := dk_167 0 6 (dk_at dksX0_mat_0 8 rfl rfl)
theorem dX0_mat_11 : decode cX0_mat 11 = .ok (.astore_n 2, 1) := dk_77 (dk_at dksX0_mat_0 11 rfl rfl)
theorem dX0_mat_12 : decode cX0_mat 12 = .ok (.iconst 1, 1) := dk_4 (dk_at dksX0_mat_0 12 rfl rfl)
theorem dX0_mat_13 : decode cX0_mat 13 = .ok (.ireturn, 1) := dk_172 (dk_at dksX0_mat_0 13 rfl rfl)
theorem dX0_mat_14 : decode cX0_mat 14 = .ok (.iconst 0, 1) := dk_3 (dk_at dksX0_mat_0 14 rfl rfl)
theorem dX0_mat_15 : decode cX0_mat 15 = .ok (.ireturn, 1) := dk_172 (dk_at dksX0_mat_0 15 rfl rfl)
abbrev cX0_fix : ByteArray := method_4_code
def yX0_fix : MethodName := ⟨RX0, "fix", "(LJumpHall;II[J)I"⟩
def dkwX0_fix_0 : List UInt8 := [45, 3, 42, 27, 28, 182, 0, 15, 133, 80, 167, 0, 11, 58, 4, 4, 172, 58, 4, 5, 172, 3, 172]
abbrev dktX0_fix_0 : List UInt8 := dkwX0_fix_0 ++ []
theorem dksX0_fix_0 : cX0_fix.data.toList.drop 0 = dktX0_fix_0 := by decide +kernel
theorem dX0_fix_0 : decode cX0_fix 0 = .ok (.aload_n 3, 1) := dk_45 (dk_at dksX0_fix_0 0 rfl rfl)
theorem dX0_fix_1 : decode cX0_fix 1 = .ok (.iconst 0, 1) := dk_3 (dk_at dksX0_fix_0 1 rfl rfl)
theorem dX0_fix_2 : decode cX0_fix 2 = .ok (.aload_n 0, 1) := dk_42 (dk_at dksX0_fix_0 2 rfl rfl)
theorem dX0_fix_3 : decode cX0_fix 3 = .ok (.iload_n 1, 1) := dk_27 (dk_at dksX0_fix_0 3 rfl rfl)
theorem dX0_fix_4 : decode cX0_fix 4 = .ok (.iload_n 2, 1) := dk_28 (dk_at dksX0_fix_0 4 rfl rfl)
theorem dX0_fix_5 : decode cX0_fix 5 = .ok (.invokevirtual 15, 3) := dk_182 0 15 (dk_at dksX0_fix_0 5 rfl rfl)
theorem dX0_fix_8 : decode cX0_fix 8 = .ok (.i2l, 1) := dk_133 (dk_at dksX0_fix_0 8 rfl rfl)
theorem dX0_fix_9 : decode cX0_fix 9 = .ok (.lastore, 1) := dk_80 (dk_at dksX0_fix_0 9 rfl rfl)
theorem dX0_fix_10 : decode cX0_fix 10 = .ok (.goto 11, 3) := dk_167 0 11 (dk_at dksX0_fix_0 10 rfl rfl)
theorem dX0_fix_13 : decode cX0_fix 13 = .ok (.astore 4, 2) := dk_58 4 (dk_at dksX0_fix_0 13 rfl rfl)
theorem dX0_fix_15 : decode cX0_fix 15 = .ok (.iconst 1, 1) := dk_4 (dk_at dksX0_fix_0 15 rfl rfl)
theorem dX0_fix_16 : decode cX0_fix 16 = .ok (.ireturn, 1) := dk_172 (dk_at dksX0_fix_0 16 rfl rfl)
theorem dX0_fix_17 : decode cX0_fix 17 = .ok (.astore 4, 2) := dk_58 4 (dk_at dksX0_fix_0 17 rfl rfl)
theorem dX0_fix_19 : decode cX0_fix 19 = .ok (.iconst 2, 1) := dk_5 (dk_at dksX0_fix_0 19 rfl rfl)
theorem dX0_fix_20 : decode cX0_fix 20 = .ok (.ireturn, 1) := dk_172 (dk_at dksX0_fix_0 20 rfl rfl)
theorem dX0_fix_21 : decode cX0_fix 21 = .ok (.iconst 0, 1) := dk_3 (dk_at dksX0_fix_0 21 rfl rfl)
theorem dX0_fix_22 : decode cX0_fix 22 = .ok (.ireturn, 1) := dk_172 (dk_at dksX0_fix_0 22 rfl rfl)
abbrev cX0_open : ByteArray := method_5_code
def yX0_open : MethodName := ⟨RX0, "open", "(LJumpHall;I[J)I"⟩
def dkwX0_open_0 : List UInt8 := [44, 3, 42, 27, 182, 0, 21, 133, 80, 167, 0, 9, 78, 4, 172, 78, 5, 172, 3, 172]
abbrev dktX0_open_0 : List UInt8 := dkwX0_open_0 ++ []
theorem dksX0_open_0 : cX0_open.data.toList.drop 0 = dktX0_open_0 := by decide +kernel
theorem dX0_open_0 : decode cX0_open 0 = .ok (.aload_n 2, 1) := dk_44 (dk_at dksX0_open_0 0 rfl rfl)
theorem dX0_open_1 : decode cX0_open 1 = .ok (.iconst 0, 1) := dk_3 (dk_at dksX0_open_0 1 rfl rfl)
theorem dX0_open_2 : decode cX0_open 2 = .ok (.aload_n 0, 1) := dk_42 (dk_at dksX0_open_0 2 rfl rfl)
theorem dX0_open_3 : decode cX0_open 3 = .ok (.iload_n 1, 1) := dk_27 (dk_at dksX0_open_0 3 rfl rfl)
theorem dX0_open_4 : decode cX0_open 4 = .ok (.invokevirtual 21, 3) := dk_182 0 21 (dk_at dksX0_open_0 4 rfl rfl)
theorem dX0_open_7 : decode cX0_open 7 = .ok (.i2l, 1) := dk_133 (dk_at dksX0_open_0 7 rfl rfl)
theorem dX0_open_8 : decode cX0_open 8 = .ok (.lastore, 1) := dk_80 (dk_at dksX0_open_0 8 rfl rfl)
theorem dX0_open_9 : decode cX0_open 9 = .ok (.goto 9, 3) := dk_167 0 9 (dk_at dksX0_open_0 9 rfl rfl)
theorem dX0_open_12 : decode cX0_open 12 = .ok (.astore_n 3, 1) := dk_78 (dk_at dksX0_open_0 12 rfl rfl)
theorem dX0_open_13 : decode cX0_open 13 = .ok (.iconst 1, 1) := dk_4 (dk_at dksX0_open_0 13 rfl rfl)
theorem dX0_open_14 : decode cX0_open 14 = .ok (.ireturn, 1) := dk_172 (dk_at dksX0_open_0 14 rfl rfl)
theorem dX0_open_15 : decode cX0_open 15 = .ok (.astore_n 3, 1) := dk_78 (dk_at dksX0_open_0 15 rfl rfl)
theorem dX0_open_16 : decode cX0_open 16 = .ok (.iconst 2, 1) := dk_5 (dk_at dksX0_open_0 16 rfl rfl)
theorem dX0_open_17 : decode cX0_open 17 = .ok (.ireturn, 1) := dk_172 (dk_at dksX0_open_0 17 rfl rfl)
theorem dX0_open_18 : decode cX0_open 18 = .ok (.iconst 0, 1) := dk_3 (dk_at dksX0_open_0 18 rfl rfl)
theorem dX0_open_19 : decode cX0_open 19 = .ok (.ireturn, 1) := dk_172 (dk_at dksX0_open_0 19 rfl rfl)
abbrev cX0_matOf : ByteArray := method_6_code
def yX0_matOf : MethodName := ⟨RX0, "matOf", "(LJumpHall;II[J)I"⟩
def dkwX0_matOf_0 : List UInt8 := [45, 3, 42, 27, 28, 182, 0, 25, 133, 80, 167, 0, 11, 58, 4, 4, 172, 58, 4, 5, 172, 3, 172]
abbrev dktX0_matOf_0 : List UInt8 := dkwX0_matOf_0 ++ []
theorem dksX0_matOf_0 : cX0_matOf.data.toList.drop 0 = dktX0_matOf_0 := by decide +kernel
theorem dX0_matOf_0 : decode cX0_matOf 0 = .ok (.aload_n 3, 1) := dk_45 (dk_at dksX0_matOf_0 0 rfl rfl)
theorem dX0_matOf_1 : decode cX0_matOf 1 = .ok (.iconst 0, 1) := dk_3 (dk_at dksX0_matOf_0 1 rfl rfl)
theorem dX0_matOf_2 : decode cX0_matOf 2 = .ok (.aload_n 0, 1) := dk_42 (dk_at dksX0_matOf_0 2 rfl rfl)
theorem dX0_matOf_3 : decode cX0_matOf 3 = .ok (.iload_n 1, 1) := dk_27 (dk_at dksX0_matOf_0 3 rfl rfl)
theorem dX0_matOf_4 : decode cX0_matOf 4 = .ok (.iload_n 2, 1) := dk_28 (dk_at dksX0_matOf_0 4 rfl rfl)
theorem dX0_matOf_5 : decode cX0_matOf 5 = .ok (.invokevirtual 25, 3) := dk_182 0 25 (dk_at dksX0_matOf_0 5 rfl rfl)
theorem dX0_matOf_8 : decode cX0_matOf 8 = .ok (.i2l, 1) := dk_133 (dk_at dksX0_matOf_0 8 rfl rfl)
theorem dX0_matOf_9 : decode cX0_matOf 9 = .ok (.lastore, 1) := dk_80 (dk_at dksX0_matOf_0 9 rfl rfl)
theorem dX0_matOf_10 : decode cX0_matOf 10 = .ok (.goto 11, 3) := dk_167 0 11 (dk_at dksX0_matOf_0 10 rfl rfl)
theorem dX0_matOf_13 : decode cX0_matOf 13 = .ok (.astore 4, 2) := dk_58 4 (dk_at dksX0_matOf_0 13 rfl rfl)
theorem dX0_matOf_15 : decode cX0_matOf 15 = .ok (.iconst 1, 1) := dk_4 (dk_at dksX0_matOf_0 15 rfl rfl)
theorem dX0_matOf_16 : decode cX0_matOf 16 = .ok (.ireturn, 1) := dk_172 (dk_at dksX0_matOf_0 16 rfl rfl)
theorem dX0_matOf_17 : decode cX0_matOf 17 = .ok (.astore 4, 2) := dk_58 4 (dk_at dksX0_matOf_0 17 rfl rfl)
theorem dX0_matOf_19 : decode cX0_matOf 19 = .ok (.iconst 2, 1) := dk_5 (dk_at dksX0_matOf_0 19 rfl rfl)
theorem dX0_matOf_20 : decode cX0_matOf 20 = .ok (.ireturn, 1) := dk_172 (dk_at dksX0_matOf_0 20 rfl rfl)
theorem dX0_matOf_21 : decode cX0_matOf 21 = .ok (.iconst 0, 1) := dk_3 (dk_at dksX0_matOf_0 21 rfl rfl)
theorem dX0_matOf_22 : decode cX0_matOf 22 = .ok (.ireturn, 1) := dk_172 (dk_at dksX0_matOf_0 22 rfl rfl)
abbrev cX0_wear : ByteArray := method_7_code
def yX0_wear : MethodName := ⟨RX0, "wear", "(LJumpHall;II[J)I"⟩
def dkwX0_wear_0 : List UInt8 := [45, 3, 42, 27, 28, 182, 0, 30, 133, 80, 167, 0, 7, 58, 4, 4, 172, 3, 172]
abbrev dktX0_wear_0 : List UInt8 := dkwX0_wear_0 ++ []
theorem dksX0_wear_0 : cX0_wear.data.toList.drop 0 = dktX0_wear_0 := by decide +kernel
theorem dX0_wear_0 : decode cX0_wear 0 = .ok (.aload_n 3, 1) := dk_45 (dk_at dksX0_wear_0 0 rfl rfl)
theorem dX0_wear_1 : decode cX0_wear 1 = .ok (.iconst 0, 1) := dk_3 (dk_at dksX0_wear_0 1 rfl rfl)
theorem dX0_wear_2 : decode cX0_wear 2 = .ok (.aload_n 0, 1) := dk_42 (dk_at dksX0_wear_0 2 rfl rfl)
theorem dX0_wear_3 : decode cX0_wear 3 = .ok (.iload_n 1, 1) := dk_27 (dk_at dksX0_wear_0 3 rfl rfl)
theorem dX0_wear_4 : decode cX0_wear 4 = .ok (.iload_n 2, 1) := dk_28 (dk_at dksX0_wear_0 4 rfl rfl)
theorem dX0_wear_5 : decode cX0_wear 5 = .ok (.invokevirtual 30, 3) := dk_182 0 30 (dk_at dksX0_wear_0 5 rfl rfl)
theorem dX0_wear_8 : decode cX0_wear 8 = .ok (.i2l, 1) := dk_133 (dk_at dksX0_wear_0 8 rfl rfl)
theorem dX0_wear_9 : decode cX0_wear 9 = .ok (.lastore, 1) := dk_80 (dk_at dksX0_wear_0 9 rfl rfl)
theorem dX0_wear_10 : decode cX0_wear 10 = .ok (.goto 7, 3) := dk_167 0 7 (dk_at dksX0_wear_0 10 rfl rfl)
theorem dX0_wear_13 : decode cX0_wear 13 = .ok (.astore 4, 2) := dk_58 4 (dk_at dksX0_wear_0 13 rfl rfl)
theorem dX0_wear_15 : decode cX0_wear 15 = .ok (.iconst 1, 1) := dk_4 (dk_at dksX0_wear_0 15 rfl rfl)
theorem dX0_wear_16 : decode cX0_wear 16 = .ok (.ireturn, 1) := dk_172 (dk_at dksX0_wear_0 16 rfl rfl)
theorem dX0_wear_17 : decode cX0_wear 17 = .ok (.iconst 0, 1) := dk_3 (dk_at dksX0_wear_0 17 rfl rfl)
theorem dX0_wear_18 : decode cX0_wear 18 = .ok (.ireturn, 1) := dk_172 (dk_at dksX0_wear_0 18 rfl rfl)
abbrev cX0_bearsAgain : ByteArray := method_8_code
def yX0_bearsAgain : MethodName := ⟨RX0, "bearsAgain", "(LJumpHall;I[J)I"⟩
def dkwX0_bearsAgain_0 : List UInt8 := [44, 3, 42, 27, 182, 0, 33, 133, 80, 167, 0, 6, 78, 4, 172, 3, 172]
abbrev dktX0_bearsAgain_0 : List UInt8 := dkwX0_bearsAgain_0 ++ []
theorem dksX0_bearsAgain_0 : cX0_bearsAgain.data.toList.drop 0 = dktX0_bearsAgain_0 := by decide +kernel
theorem dX0_bearsAgain_0 : decode cX0_bearsAgain 0 = .ok (.aload_n 2, 1) := dk_44 (dk_at dksX0_bearsAgain_0 0 rfl rfl)
theorem dX0_bearsAgain_1 : decode cX0_bearsAgain 1 = .ok (.iconst 0, 1) := dk_3 (dk_at dksX0_bearsAgain_0 1 rfl rfl)
theorem dX0_bearsAgain_2 : decode cX0_bearsAgain 2 = .ok (.aload_n 0, 1) := dk_42 (dk_at dksX0_bearsAgain_0 2 rfl rfl)
theorem dX0_bearsAgain_3 : decode cX0_bearsAgain 3 = .ok (.iload_n 1, 1) := dk_27 (dk_at dksX0_bearsAgain_0 3 rfl rfl)
theorem dX0_bearsAgain_4 : decode cX0_bearsAgain 4 = .ok (.invokevirtual 33, 3) := dk_182 0 33 (dk_at dksX0_bearsAgain_0 4 rfl rfl)
theorem dX0_bearsAgain_7 : decode cX0_bearsAgain 7 = .ok (.i2l, 1) := dk_133 (dk_at dksX0_bearsAgain_0 7 rfl rfl)
theorem dX0_bearsAgain_8 : decode cX0_bearsAgain 8 = .ok (.lastore, 1) := dk_80 (dk_at dksX0_bearsAgain_0 8 rfl rfl)
theorem dX0_bearsAgain_9 : decode cX0_bearsAgain 9 = .ok (.goto 6, 3) := dk_167 0 6 (dk_at dksX0_bearsAgain_0 9 rfl rfl)
theorem dX0_bearsAgain_12 : decode cX0_bearsAgain 12 = .ok (.astore_n 3, 1) := dk_78 (dk_at dksX0_bearsAgain_0 12 rfl rfl)
theorem dX0_bearsAgain_13 : decode cX0_bearsAgain 13 = .ok (.iconst 1, 1) := dk_4 (dk_at dksX0_bearsAgain_0 13 rfl rfl)
theorem dX0_bearsAgain_14 : decode cX0_bearsAgain 14 = .ok (.ireturn, 1) := dk_172 (dk_at dksX0_bearsAgain_0 14 rfl rfl)
theorem dX0_bearsAgain_15 : decode cX0_bearsAgain 15 = .ok (.iconst 0, 1) := dk_3 (dk_at dksX0_bearsAgain_0 15 rfl rfl)
theorem dX0_bearsAgain_16 : decode cX0_bearsAgain 16 = .ok (.ireturn, 1) := dk_172 (dk_at dksX0_bearsAgain_0 16 rfl rfl)
abbrev cX0_lasts : ByteArray := method_9_code
def yX0_lasts : MethodName := ⟨RX0, "lasts", "(LJumpHall;I[J)I"⟩
def dkwX0_lasts_0 : List UInt8 := [44, 3, 42, 27, 182, 0, 36, 133, 80, 167, 0, 9, 78, 4, 172, 78, 5, 172, 3, 172]
abbrev dktX0_lasts_0 : List UInt8 := dkwX0_lasts_0 ++ []
theorem dksX0_lasts_0 : cX0_lasts.data.toList.drop 0 = dktX0_lasts_0 := by decide +kernel
theorem dX0_lasts_0 : decode cX0_lasts 0 = .ok (.aload_n 2, 1) := dk_44 (dk_at dksX0_lasts_0 0 rfl rfl)
theorem dX0_lasts_1 : decode cX0_lasts 1 = .ok (.iconst 0, 1) := dk_3 (dk_at dksX0_lasts_0 1 rfl rfl)
theorem dX0_lasts_2 : decode cX0_lasts 2 = .ok (.aload_n 0, 1) := dk_42 (dk_at dksX0_lasts_0 2 rfl rfl)
theorem dX0_lasts_3 : decode cX0_lasts 3 = .ok (.iload_n 1, 1) := dk_27 (dk_at dksX0_lasts_0 3 rfl rfl)
theorem dX0_lasts_4 : decode cX0_lasts 4 = .ok (.invokevirtual 36, 3) := dk_182 0 36 (dk_at dksX0_lasts_0 4 rfl rfl)
theorem dX0_lasts_7 : decode cX0_lasts 7 = .ok (.i2l, 1) := dk_133 (dk_at dksX0_lasts_0 7 rfl rfl)
theorem dX0_lasts_8 : decode cX0_lasts 8 = .ok (.lastore, 1) := dk_80 (dk_at dksX0_lasts_0 8 rfl rfl)
theorem dX0_lasts_9 : decode cX0_lasts 9 = .ok (.goto 9, 3) := dk_167 0 9 (dk_at dksX0_lasts_0 9 rfl rfl)
theorem dX0_lasts_12 : decode cX0_lasts 12 = .ok (.astore_n 3, 1) := dk_78 (dk_at dksX0_lasts_0 12 rfl rfl)
theorem dX0_lasts_13 : decode cX0_lasts 13 = .ok (.iconst 1, 1) := dk_4 (dk_at dksX0_lasts_0 13 rfl rfl)
theorem dX0_lasts_14 : decode cX0_lasts 14 = .ok (.ireturn, 1) := dk_172 (dk_at dksX0_lasts_0 14 rfl rfl)
theorem dX0_lasts_15 : decode cX0_lasts 15 = .ok (.astore_n 3, 1) := dk_78 (dk_at dksX0_lasts_0 15 rfl rfl)
theorem dX0_lasts_16 : decode cX0_lasts 16 = .ok (.iconst 2, 1) := dk_5 (dk_at dksX0_lasts_0 16 rfl rfl)
theorem dX0_lasts_17 : decode cX0_lasts 17 = .ok (.ireturn, 1) := dk_172 (dk_at dksX0_lasts_0 17 rfl rfl)
theorem dX0_lasts_18 : decode cX0_lasts 18 = .ok (.iconst 0, 1) := dk_3 (dk_at dksX0_lasts_0 18 rfl rfl)
theorem dX0_lasts_19 : decode cX0_lasts 19 = .ok (.ireturn, 1) := dk_172 (dk_at dksX0_lasts_0 19 rfl rfl)
abbrev cX0_bestMat : ByteArray := method_10_code
def yX0_bestMat : MethodName := ⟨RX0, "bestMat", "(LJumpHall;[J)I"⟩
def dkwX0_bestMat_0 : List UInt8 := [43, 3, 42, 182, 0, 41, 133, 80, 167, 0, 6, 77, 4, 172, 3, 172]
abbrev dktX0_bestMat_0 : List UInt8 := dkwX0_bestMat_0 ++ []
theorem dksX0_bestMat_0 : cX0_bestMat.data.toList.drop 0 = dktX0_bestMat_0 := by decide +kernel
theorem dX0_bestMat_0 : decode cX0_bestMat 0 = .ok (.aload_n 1, 1) := dk_43 (dk_at dksX0_bestMat_0 0 rfl rfl)
theorem dX0_bestMat_1 : decode cX0_bestMat 1 = .ok (.iconst 0, 1) := dk_3 (dk_at dksX0_bestMat_0 1 rfl rfl)
theorem dX0_bestMat_2 : decode cX0_bestMat 2 = .ok (.aload_n 0, 1) := dk_42 (dk_at dksX0_bestMat_0 2 rfl rfl)
theorem dX0_bestMat_3 : decode cX0_bestMat 3 = .ok (.invokevirtual 41, 3) := dk_182 0 41 (dk_at dksX0_bestMat_0 3 rfl rfl)
theorem dX0_bestMat_6 : decode cX0_bestMat 6 = .ok (.i2l, 1) := dk_133 (dk_at dksX0_bestMat_0 6 rfl rfl)
theorem dX0_bestMat_7 : decode cX0_bestMat 7 = .ok (.lastore, 1) := dk_80 (dk_at dksX0_bestMat_0 7 rfl rfl)
theorem dX0_bestMat_8 : decode cX0_bestMat 8 = .ok (.goto 6, 3) := dk_167 0 6 (dk_at dksX0_bestMat_0 8 rfl rfl)
theorem dX0_bestMat_11 : decode cX0_bestMat 11 = .ok (.astore_n 2, 1) := dk_77 (dk_at dksX0_bestMat_0 11 rfl rfl)
theorem dX0_bestMat_12 : decode cX0_bestMat 12 = .ok (.iconst 1, 1) := dk_4 (dk_at dksX0_bestMat_0 12 rfl rfl)
theorem dX0_bestMat_13 : decode cX0_bestMat 13 = .ok (.ireturn, 1) := dk_172 (dk_at dksX0_bestMat_0 13 rfl rfl)
theorem dX0_bestMat_14 : decode cX0_bestMat 14 = .ok (.iconst 0, 1) := dk_3 (dk_at dksX0_bestMat_0 14 rfl rfl)
theorem dX0_bestMat_15 : decode cX0_bestMat 15 = .ok (.ireturn, 1) := dk_172 (dk_at dksX0_bestMat_0 15 rfl rfl)
abbrev cX0_jumper : ByteArray := method_11_code
def yX0_jumper : MethodName := ⟨RX0, "jumper", "(LJumpHall;II[J)I"⟩
def dkwX0_jumper_0 : List UInt8 := [45, 3, 42, 27, 28, 182, 0, 44, 133, 80, 167, 0, 11, 58, 4, 4, 172, 58, 4, 5, 172, 3, 172]
abbrev dktX0_jumper_0 : List UInt8 := dkwX0_jumper_0 ++ []
theorem dksX0_jumper_0 : cX0_jumper.data.toList.drop 0 = dktX0_jumper_0 := by decide +kernel
theorem dX0_jumper_0 : decode cX0_jumper 0 = .ok (.aload_n 3, 1) := dk_45 (dk_at dksX0_jumper_0 0 rfl rfl)
theorem dX0_jumper_1 : decode cX0_jumper 1 = .ok (.iconst 0, 1) := dk_3 (dk_at dksX0_jumper_0 1 rfl rfl)
theorem dX0_jumper_2 : decode cX0_jumper 2 = .ok (.aload_n 0, 1) := dk_42 (dk_at dksX0_jumper_0 2 rfl rfl)
theorem dX0_jumper_3 : decode cX0_jumper 3 = .ok (.iload_n 1, 1) := dk_27 (dk_at dksX0_jumper_0 3 rfl rfl)
theorem dX0_jumper_4 : decode cX0_jumper 4 = .ok (.iload_n 2, 1) := dk_28 (dk_at dksX0_jumper_0 4 rfl rfl)
theorem dX0_jumper_5 : decode cX0_jumper 5 = .ok (.invokevirtual 44, 3) := dk_182 0 44 (dk_at dksX0_jumper_0 5 rfl rfl)
theorem dX0_jumper_8 : decode cX0_jumper 8 = .ok (.i2l, 1) := dk_133 (dk_at dksX0_jumper_0 8 rfl rfl)
theorem dX0_jumper_9 : decode cX0_jumper 9 = .ok (.lastore, 1) := dk_80 (dk_at dksX0_jumper_0 9 rfl rfl)
theorem dX0_jumper_10 : decode cX0_jumper 10 = .ok (.goto 11, 3) := dk_167 0 11 (dk_at dksX0_jumper_0 10 rfl rfl)
theorem dX0_jumper_13 : decode cX0_jumper 13 = .ok (.astore 4, 2) := dk_58 4 (dk_at dksX0_jumper_0 13 rfl rfl)
theorem dX0_jumper_15 : decode cX0_jumper 15 = .ok (.iconst 1, 1) := dk_4 (dk_at dksX0_jumper_0 15 rfl rfl)
theorem dX0_jumper_16 : decode cX0_jumper 16 = .ok (.ireturn, 1) := dk_172 (dk_at dksX0_jumper_0 16 rfl rfl)
theorem dX0_jumper_17 : decode cX0_jumper 17 = .ok (.astore 4, 2) := dk_58 4 (dk_at dksX0_jumper_0 17 rfl rfl)
theorem dX0_jumper_19 : decode cX0_jumper 19 = .ok (.iconst 2, 1) := dk_5 (dk_at dksX0_jumper_0 19 rfl rfl)
theorem dX0_jumper_20 : decode cX0_jumper 20 = .ok (.ireturn, 1) := dk_172 (dk_at dksX0_jumper_0 20 rfl rfl)
theorem dX0_jumper_21 : decode cX0_jumper 21 = .ok (.iconst 0, 1) := dk_3 (dk_at dksX0_jumper_0 21 rfl rfl)
theorem dX0_jumper_22 : decode cX0_jumper 22 = .ok (.ireturn, 1) := dk_172 (dk_at dksX0_jumper_0 22 rfl rfl)
abbrev cX0_up : ByteArray := method_12_code
def yX0_up : MethodName := ⟨RX0, "up", "(LJumpHall;II[J)I"⟩
def dkwX0_up_0 : List UInt8 := [45, 3, 42, 27, 28, 182, 0, 47, 133, 80, 167, 0, 11, 58, 4, 4, 172, 58, 4, 5, 172, 3, 172]
abbrev dktX0_up_0 : List UInt8 := dkwX0_up_0 ++ []
theorem dksX0_up_0 : cX0_up.data.toList.drop 0 = dktX0_up_0 := by decide +kernel
theorem dX0_up_0 : decode cX0_up 0 = .ok (.aload_n 3, 1) := dk_45 (dk_at dksX0_up_0 0 rfl rfl)
theorem dX0_up_1 : decode cX0_up 1 = .ok (.iconst 0, 1) := dk_3 (dk_at dksX0_up_0 1 rfl rfl)
theorem dX0_up_2 : decode cX0_up 2 = .ok (.aload_n 0, 1) := dk_42 (dk_at dksX0_up_0 2 rfl rfl)
theorem dX0_up_3 : decode cX0_up 3 = .ok (.iload_n 1, 1) := dk_27 (dk_at dksX0_up_0 3 rfl rfl)
theorem dX0_up_4 : decode cX0_up 4 = .ok (.iload_n 2, 1) := dk_28 (dk_at dksX0_up_0 4 rfl rfl)
theorem dX0_up_5 : decode cX0_up 5 = .ok (.invokevirtual 47, 3) := dk_182 0 47 (dk_at dksX0_up_0 5 rfl rfl)
theorem dX0_up_8 : decode cX0_up 8 = .ok (.i2l, 1) := dk_133 (dk_at dksX0_up_0 8 rfl rfl)
theorem dX0_up_9 : decode cX0_up 9 = .ok (.lastore, 1) := dk_80 (dk_at dksX0_up_0 9 rfl rfl)
theorem dX0_up_10 : decode cX0_up 10 = .ok (.goto 11, 3) := dk_167 0 11 (dk_at dksX0_up_0 10 rfl rfl)
theorem dX0_up_13 : decode cX0_up 13 = .ok (.astore 4, 2) := dk_58 4 (dk_at dksX0_up_0 13 rfl rfl)
theorem dX0_up_15 : decode cX0_up 15 = .ok (.iconst 1, 1) := dk_4 (dk_at dksX0_up_0 15 rfl rfl)
theorem dX0_up_16 : decode cX0_up 16 = .ok (.ireturn, 1) := dk_172 (dk_at dksX0_up_0 16 rfl rfl)
theorem dX0_up_17 : decode cX0_up 17 = .ok (.astore 4, 2) := dk_58 4 (dk_at dksX0_up_0 17 rfl rfl)
theorem dX0_up_19 : decode cX0_up 19 = .ok (.iconst 2, 1) := dk_5 (dk_at dksX0_up_0 19 rfl rfl)
theorem dX0_up_20 : decode cX0_up 20 = .ok (.ireturn, 1) := dk_172 (dk_at dksX0_up_0 20 rfl rfl)
theorem dX0_up_21 : decode cX0_up 21 = .ok (.iconst 0, 1) := dk_3 (dk_at dksX0_up_0 21 rfl rfl)
theorem dX0_up_22 : decode cX0_up 22 = .ok (.ireturn, 1) := dk_172 (dk_at dksX0_up_0 22 rfl rfl)
abbrev cX0_down : ByteArray := method_13_code
def yX0_down : MethodName := ⟨RX0, "down", "(LJumpHall;I[J)I"⟩
def dkwX0_down_0 : List UInt8 := [44, 3, 42, 27, 182, 0, 50, 133, 80, 167, 0, 9, 78, 4, 172, 78, 5, 172, 3, 172]
abbrev dktX0_down_0 : List UInt8 := dkwX0_down_0 ++ []
theorem dksX0_down_0 : cX0_down.data.toList.drop 0 = dktX0_down_0 := by decide +kernel
theorem dX0_down_0 : decode cX0_down 0 = .ok (.aload_n 2, 1) := dk_44 (dk_at dksX0_down_0 0 rfl rfl)
theorem dX0_down_1 : decode cX0_down 1 = .ok (.iconst 0, 1) := dk_3 (dk_at dksX0_down_0 1 rfl rfl)
theorem dX0_down_2 : decode cX0_down 2 = .ok (.aload_n 0, 1) := dk_42 (dk_at dksX0_down_0 2 rfl rfl)
theorem dX0_down_3 : decode cX0_down 3 = .ok (.iload_n 1, 1) := dk_27 (dk_at dksX0_down_0 3 rfl rfl)
theorem dX0_down_4 : decode cX0_down 4 = .ok (.invokevirtual 50, 3) := dk_182 0 50 (dk_at dksX0_down_0 4 rfl rfl)
theorem dX0_down_7 : decode cX0_down 7 = .ok (.i2l, 1) := dk_133 (dk_at dksX0_down_0 7 rfl rfl)
theorem dX0_down_8 : decode cX0_down 8 = .ok (.lastore, 1) := dk_80 (dk_at dksX0_down_0 8 rfl rfl)
theorem dX0_down_9 : decode cX0_down 9 = .ok (.goto 9, 3) := dk_167 0 9 (dk_at dksX0_down_0 9 rfl rfl)
theorem dX0_down_12 : decode cX0_down 12 = .ok (.astore_n 3, 1) := dk_78 (dk_at dksX0_down_0 12 rfl rfl)
theorem dX0_down_13 : decode cX0_down 13 = .ok (.iconst 1, 1) := dk_4 (dk_at dksX0_down_0 13 rfl rfl)
theorem dX0_down_14 : decode cX0_down 14 = .ok (.ireturn, 1) := dk_172 (dk_at dksX0_down_0 14 rfl rfl)
theorem dX0_down_15 : decode cX0_down 15 = .ok (.astore_n 3, 1) := dk_78 (dk_at dksX0_down_0 15 rfl rfl)
theorem dX0_down_16 : decode cX0_down 16 = .ok (.iconst 2, 1) := dk_5 (dk_at dksX0_down_0 16 rfl rfl)
theorem dX0_down_17 : decode cX0_down 17 = .ok (.ireturn, 1) := dk_172 (dk_at dksX0_down_0 17 rfl rfl)
theorem dX0_down_18 : decode cX0_down 18 = .ok (.iconst 0, 1) := dk_3 (dk_at dksX0_down_0 18 rfl rfl)
theorem dX0_down_19 : decode cX0_down 19 = .ok (.ireturn, 1) := dk_172 (dk_at dksX0_down_0 19 rfl rfl)
abbrev cX0_leave : ByteArray := method_14_code
def yX0_leave : MethodName := ⟨RX0, "leave", "(LJumpHall;I[J)I"⟩
def dkwX0_leave_0 : List UInt8 := [44, 3, 42, 27, 182, 0, 53, 133, 80, 167, 0, 9, 78, 4, 172, 78, 5, 172, 3, 172]
abbrev dktX0_leave_0 : List UInt8 := dkwX0_leave_0 ++ []
theorem dksX0_leave_0 : cX0_leave.data.toList.drop 0 = dktX0_leave_0 := by decide +kernel
theorem dX0_leave_0 : decode cX0_leave 0 = .ok (.aload_n 2, 1) := dk_44 (dk_at dksX0_leave_0 0 rfl rfl)
theorem dX0_leave_1 : decode cX0_leave 1 = .ok (.iconst 0, 1) := dk_3 (dk_at dksX0_leave_0 1 rfl rfl)
theorem dX0_leave_2 : decode cX0_leave 2 = .ok (.aload_n 0, 1) := dk_42 (dk_at dksX0_leave_0 2 rfl rfl)
theorem dX0_leave_3 : decode cX0_leave 3 = .ok (.iload_n 1, 1) := dk_27 (dk_at dksX0_leave_0 3 rfl rfl)
theorem dX0_leave_4 : decode cX0_leave 4 = .ok (.invokevirtual 53, 3) := dk_182 0 53 (dk_at dksX0_leave_0 4 rfl rfl)
theorem dX0_leave_7 : decode cX0_leave 7 = .ok (.i2l, 1) := dk_133 (dk_at dksX0_leave_0 7 rfl rfl)
theorem dX0_leave_8 : decode cX0_leave 8 = .ok (.lastore, 1) := dk_80 (dk_at dksX0_leave_0 8 rfl rfl)
theorem dX0_leave_9 : decode cX0_leave 9 = .ok (.goto 9, 3) := dk_167 0 9 (dk_at dksX0_leave_0 9 rfl rfl)
theorem dX0_leave_12 : decode cX0_leave 12 = .ok (.astore_n 3, 1) := dk_78 (dk_at dksX0_leave_0 12 rfl rfl)
theorem dX0_leave_13 : decode cX0_leave 13 = .ok (.iconst 1, 1) := dk_4 (dk_at dksX0_leave_0 13 rfl rfl)
theorem dX0_leave_14 : decode cX0_leave 14 = .ok (.ireturn, 1) := dk_172 (dk_at dksX0_leave_0 14 rfl rfl)
theorem dX0_leave_15 : decode cX0_leave 15 = .ok (.astore_n 3, 1) := dk_78 (dk_at dksX0_leave_0 15 rfl rfl)
theorem dX0_leave_16 : decode cX0_leave 16 = .ok (.iconst 2, 1) := dk_5 (dk_at dksX0_leave_0 16 rfl rfl)
theorem dX0_leave_17 : decode cX0_leave 17 = .ok (.ireturn, 1) := dk_172 (dk_at dksX0_leave_0 17 rfl rfl)
theorem dX0_leave_18 : decode cX0_leave 18 = .ok (.iconst 0, 1) := dk_3 (dk_at dksX0_leave_0 18 rfl rfl)
theorem dX0_leave_19 : decode cX0_leave 19 = .ok (.ireturn, 1) := dk_172 (dk_at dksX0_leave_0 19 rfl rfl)
abbrev cX0_stock : ByteArray := method_15_code
def yX0_stock : MethodName := ⟨RX0, "stock", "(LJumpHall;III[J)I"⟩
def dkwX0_stock_0 : List UInt8 := [25, 4, 3, 42, 27, 28, 29, 182, 0, 56, 133, 80, 167, 0, 7, 58, 5, 4, 172, 3, 172]
abbrev dktX0_stock_0 : List UInt8 := dkwX0_stock_0 ++ []
theorem dksX0_stock_0 : cX0_stock.data.toList.drop 0 = dktX0_stock_0 := by decide +kernel
theorem dX0_stock_0 : decode cX0_stock 0 = .ok (.aload 4, 2) := dk_25 4 (dk_at dksX0_stock_0 0 rfl rfl)
theorem dX0_stock_2 : decode cX0_stock 2 = .ok (.iconst 0, 1) := dk_3 (dk_at dksX0_stock_0 2 rfl rfl)
theorem dX0_stock_3 : decode cX0_stock 3 = .ok (.aload_n 0, 1) := dk_42 (dk_at dksX0_stock_0 3 rfl rfl)
theorem dX0_stock_4 : decode cX0_stock 4 = .ok (.iload_n 1, 1) := dk_27 (dk_at dksX0_stock_0 4 rfl rfl)
theorem dX0_stock_5 : decode cX0_stock 5 = .ok (.iload_n 2, 1) := dk_28 (dk_at dksX0_stock_0 5 rfl rfl)
theorem dX0_stock_6 : decode cX0_stock 6 = .ok (.iload_n 3, 1) := dk_29 (dk_at dksX0_stock_0 6 rfl rfl)
theorem dX0_stock_7 : decode cX0_stock 7 = .ok (.invokevirtual 56, 3) := dk_182 0 56 (dk_at dksX0_stock_0 7 rfl rfl)
theorem dX0_stock_10 : decode cX0_stock 10 = .ok (.i2l, 1) := dk_133 (dk_at dksX0_stock_0 10 rfl rfl)
theorem dX0_stock_11 : decode cX0_stock 11 = .ok (.lastore, 1) := dk_80 (dk_at dksX0_stock_0 11 rfl rfl)
theorem dX0_stock_12 : decode cX0_stock 12 = .ok (.goto 7, 3) := dk_167 0 7 (dk_at dksX0_stock_0 12 rfl rfl)
theorem dX0_stock_15 : decode cX0_stock 15 = .ok (.astore 5, 2) := dk_58 5 (dk_at dksX0_stock_0 15 rfl rfl)
theorem dX0_stock_17 : decode cX0_stock 17 = .ok (.iconst 1, 1) := dk_4 (dk_at dksX0_stock_0 17 rfl rfl)
theorem dX0_stock_18 : decode cX0_stock 18 = .ok (.ireturn, 1) := dk_172 (dk_at dksX0_stock_0 18 rfl rfl)
theorem dX0_stock_19 : decode cX0_stock 19 = .ok (.iconst 0, 1) := dk_3 (dk_at dksX0_stock_0 19 rfl rfl)
theorem dX0_stock_20 : decode cX0_stock 20 = .ok (.ireturn, 1) := dk_172 (dk_at dksX0_stock_0 20 rfl rfl)
abbrev cX0_sell : ByteArray := method_16_code
def yX0_sell : MethodName := ⟨RX0, "sell", "(LJumpHall;II[J)I"⟩
def dkwX0_sell_1 : List UInt8 := [172, 3, 172]
abbrev dktX0_sell_1 : List UInt8 := dkwX0_sell_1 ++ []
def dkwX0_sell_0 : List UInt8 := [45, 3, 42, 27, 28, 182, 0, 60, 133, 80, 167, 0, 15, 58, 4, 4, 172, 58, 4, 5, 172, 58, 4, 6]
abbrev dktX0_sell_0 : List UInt8 := dkwX0_sell_0 ++ dktX0_sell_1
theorem dksX0_sell_0 : cX0_sell.data.toList.drop 0 = dktX0_sell_0 := by decide +kernel
theorem dksX0_sell_1 : cX0_sell.data.toList.drop 24 = dktX0_sell_1 := dk_seg dksX0_sell_0 24 rfl rfl
theorem dX0_sell_0 : decode cX0_sell 0 = .ok (.aload_n 3, 1) := dk_45 (dk_at dksX0_sell_0 0 rfl rfl)
theorem dX0_sell_1 : decode cX0_sell 1 = .ok (.iconst 0, 1) := dk_3 (dk_at dksX0_sell_0 1 rfl rfl)
theorem dX0_sell_2 : decode cX0_sell 2 = .ok (.aload_n 0, 1) := dk_42 (dk_at dksX0_sell_0 2 rfl rfl)
theorem dX0_sell_3 : decode cX0_sell 3 = .ok (.iload_n 1, 1) := dk_27 (dk_at dksX0_sell_0 3 rfl rfl)
theorem dX0_sell_4 : decode cX0_sell 4 = .ok (.iload_n 2, 1) := dk_28 (dk_at dksX0_sell_0 4 rfl rfl)
theorem dX0_sell_5 : decode cX0_sell 5 = .ok (.invokevirtual 60, 3) := dk_182 0 60 (dk_at dksX0_sell_0 5 rfl rfl)
theorem dX0_sell_8 : decode cX0_sell 8 = .ok (.i2l, 1) := dk_133 (dk_at dksX0_sell_0 8 rfl rfl)
theorem dX0_sell_9 : decode cX0_sell 9 = .ok (.lastore, 1) := dk_80 (dk_at dksX0_sell_0 9 rfl rfl)
theorem dX0_sell_10 : decode cX0_sell 10 = .ok (.goto 15, 3) := dk_167 0 15 (dk_at dksX0_sell_0 10 rfl rfl)
theorem dX0_sell_13 : decode cX0_sell 13 = .ok (.astore 4, 2) := dk_58 4 (dk_at dksX0_sell_0 13 rfl rfl)
theorem dX0_sell_15 : decode cX0_sell 15 = .ok (.iconst 1, 1) := dk_4 (dk_at dksX0_sell_0 15 rfl rfl)
theorem dX0_sell_16 : decode cX0_sell 16 = .ok (.ireturn, 1) := dk_172 (dk_at dksX0_sell_0 16 rfl rfl)
theorem dX0_sell_17 : decode cX0_sell 17 = .ok (.astore 4, 2) := dk_58 4 (dk_at dksX0_sell_0 17 rfl rfl)
theorem dX0_sell_19 : decode cX0_sell 19 = .ok (.iconst 2, 1) := dk_5 (dk_at dksX0_sell_0 19 rfl rfl)
theorem dX0_sell_20 : decode cX0_sell 20 = .ok (.ireturn, 1) := dk_172 (dk_at dksX0_sell_0 20 rfl rfl)
theorem dX0_sell_21 : decode cX0_sell 21 = .ok (.astore 4, 2) := dk_58 4 (dk_at dksX0_sell_0 21 rfl rfl)
theorem dX0_sell_23 : decode cX0_sell 23 = .ok (.iconst 3, 1) := dk_6 (dk_at dksX0_sell_0 23 rfl rfl)
theorem dX0_sell_24 : decode cX0_sell 24 = .ok (.ireturn, 1) := dk_172 (dk_at dksX0_sell_1 0 rfl rfl)
theorem dX0_sell_25 : decode cX0_sell 25 = .ok (.iconst 0, 1) := dk_3 (dk_at dksX0_sell_1 1 rfl rfl)
theorem dX0_sell_26 : decode cX0_sell 26 = .ok (.ireturn, 1) := dk_172 (dk_at dksX0_sell_1 2 rfl rfl)
abbrev cX0_jumperOf : ByteArray := method_17_code
def yX0_jumperOf : MethodName := ⟨RX0, "jumperOf", "(LJumpHall;II[J)I"⟩
def dkwX0_jumperOf_0 : List UInt8 := [45, 3, 42, 27, 28, 182, 0, 63, 133, 80, 167, 0, 11, 58, 4, 4, 172, 58, 4, 5, 172, 3, 172]
abbrev dktX0_jumperOf_0 : List UInt8 := dkwX0_jumperOf_0 ++ []
theorem dksX0_jumperOf_0 : cX0_jumperOf.data.toList.drop 0 = dktX0_jumperOf_0 := by decide +kernel
theorem dX0_jumperOf_0 : decode cX0_jumperOf 0 = .ok (.aload_n 3, 1) := dk_45 (dk_at dksX0_jumperOf_0 0 rfl rfl)
theorem dX0_jumperOf_1 : decode cX0_jumperOf 1 = .ok (.iconst 0, 1) := dk_3 (dk_at dksX0_jumperOf_0 1 rfl rfl)
theorem dX0_jumperOf_2 : decode cX0_jumperOf 2 = .ok (.aload_n 0, 1) := dk_42 (dk_at dksX0_jumperOf_0 2 rfl rfl)
theorem dX0_jumperOf_3 : decode cX0_jumperOf 3 = .ok (.iload_n 1, 1) := dk_27 (dk_at dksX0_jumperOf_0 3 rfl rfl)
theorem dX0_jumperOf_4 : decode cX0_jumperOf 4 = .ok (.iload_n 2, 1) := dk_28 (dk_at dksX0_jumperOf_0 4 rfl rfl)
theorem dX0_jumperOf_5 : decode cX0_jumperOf 5 = .ok (.invokevirtual 63, 3) := dk_182 0 63 (dk_at dksX0_jumperOf_0 5 rfl rfl)
theorem dX0_jumperOf_8 : decode cX0_jumperOf 8 = .ok (.i2l, 1) := dk_133 (dk_at dksX0_jumperOf_0 8 rfl rfl)
theorem dX0_jumperOf_9 : decode cX0_jumperOf 9 = .ok (.lastore, 1) := dk_80 (dk_at dksX0_jumperOf_0 9 rfl rfl)
theorem dX0_jumperOf_10 : decode cX0_jumperOf 10 = .ok (.goto 11, 3) := dk_167 0 11 (dk_at dksX0_jumperOf_0 10 rfl rfl)
theorem dX0_jumperOf_13 : decode cX0_jumperOf 13 = .ok (.astore 4, 2) := dk_58 4 (dk_at dksX0_jumperOf_0 13 rfl rfl)
theorem dX0_jumperOf_15 : decode cX0_jumperOf 15 = .ok (.iconst 1, 1) := dk_4 (dk_at dksX0_jumperOf_0 15 rfl rfl)
theorem dX0_jumperOf_16 : decode cX0_jumperOf 16 = .ok (.ireturn, 1) := dk_172 (dk_at dksX0_jumperOf_0 16 rfl rfl)
theorem dX0_jumperOf_17 : decode cX0_jumperOf 17 = .ok (.astore 4, 2) := dk_58 4 (dk_at dksX0_jumperOf_0 17 rfl rfl)
theorem dX0_jumperOf_19 : decode cX0_jumperOf 19 = .ok (.iconst 2, 1) := dk_5 (dk_at dksX0_jumperOf_0 19 rfl rfl)
theorem dX0_jumperOf_20 : decode cX0_jumperOf 20 = .ok (.ireturn, 1) := dk_172 (dk_at dksX0_jumperOf_0 20 rfl rfl)
theorem dX0_jumperOf_21 : decode cX0_jumperOf 21 = .ok (.iconst 0, 1) := dk_3 (dk_at dksX0_jumperOf_0 21 rfl rfl)
theorem dX0_jumperOf_22 : decode cX0_jumperOf 22 = .ok (.ireturn, 1) := dk_172 (dk_at dksX0_jumperOf_0 22 rfl rfl)
abbrev cX0_socks : ByteArray := method_18_code
def yX0_socks : MethodName := ⟨RX0, "socks", "(LJumpHall;IIZ[J)I"⟩
def dkwX0_socks_0 : List UInt8 := [25, 4, 3, 42, 27, 28, 29, 182, 0, 66, 133, 80, 167, 0, 7, 58, 5, 4, 172, 3, 172]
abbrev dktX0_socks_0 : List UInt8 := dkwX0_socks_0 ++ []
theorem dksX0_socks_0 : cX0_socks.data.toList.drop 0 = dktX0_socks_0 := by decide +kernel
theorem dX0_socks_0 : decode cX0_socks 0 = .ok (.aload 4, 2) := dk_25 4 (dk_at dksX0_socks_0 0 rfl rfl)
theorem dX0_socks_2 : decode cX0_socks 2 = .ok (.iconst 0, 1) := dk_3 (dk_at dksX0_socks_0 2 rfl rfl)
theorem dX0_socks_3 : decode cX0_socks 3 = .ok (.aload_n 0, 1) := dk_42 (dk_at dksX0_socks_0 3 rfl rfl)
theorem dX0_socks_4 : decode cX0_socks 4 = .ok (.iload_n 1, 1) := dk_27 (dk_at dksX0_socks_0 4 rfl rfl)
theorem dX0_socks_5 : decode cX0_socks 5 = .ok (.iload_n 2, 1) := dk_28 (dk_at dksX0_socks_0 5 rfl rfl)
theorem dX0_socks_6 : decode cX0_socks 6 = .ok (.iload_n 3, 1) := dk_29 (dk_at dksX0_socks_0 6 rfl rfl)
theorem dX0_socks_7 : decode cX0_socks 7 = .ok (.invokevirtual 66, 3) := dk_182 0 66 (dk_at dksX0_socks_0 7 rfl rfl)
theorem dX0_socks_10 : decode cX0_socks 10 = .ok (.i2l, 1) := dk_133 (dk_at dksX0_socks_0 10 rfl rfl)
theorem dX0_socks_11 : decode cX0_socks 11 = .ok (.lastore, 1) := dk_80 (dk_at dksX0_socks_0 11 rfl rfl)
theorem dX0_socks_12 : decode cX0_socks 12 = .ok (.goto 7, 3) := dk_167 0 7 (dk_at dksX0_socks_0 12 rfl rfl)
theorem dX0_socks_15 : decode cX0_socks 15 = .ok (.astore 5, 2) := dk_58 5 (dk_at dksX0_socks_0 15 rfl rfl)
theorem dX0_socks_17 : decode cX0_socks 17 = .ok (.iconst 1, 1) := dk_4 (dk_at dksX0_socks_0 17 rfl rfl)
theorem dX0_socks_18 : decode cX0_socks 18 = .ok (.ireturn, 1) := dk_172 (dk_at dksX0_socks_0 18 rfl rfl)
theorem dX0_socks_19 : decode cX0_socks 19 = .ok (.iconst 0, 1) := dk_3 (dk_at dksX0_socks_0 19 rfl rfl)
theorem dX0_socks_20 : decode cX0_socks 20 = .ok (.ireturn, 1) := dk_172 (dk_at dksX0_socks_0 20 rfl rfl)
abbrev cX0_bestSize : ByteArray := method_19_code
def yX0_bestSize : MethodName := ⟨RX0, "bestSize", "(LJumpHall;[J)I"⟩
def dkwX0_bestSize_0 : List UInt8 := [43, 3, 42, 182, 0, 70, 133, 80, 167, 0, 6, 77, 4, 172, 3, 172]
abbrev dktX0_bestSize_0 : List UInt8 := dkwX0_bestSize_0 ++ []
theorem dksX0_bestSize_0 : cX0_bestSize.data.toList.drop 0 = dktX0_bestSize_0 := by decide +kernel
theorem dX0_bestSize_0 : decode cX0_bestSize 0 = .ok (.aload_n 1, 1) := dk_43 (dk_at dksX0_bestSize_0 0 rfl rfl)
theorem dX0_bestSize_1 : decode cX0_bestSize 1 = .ok (.iconst 0, 1) := dk_3 (dk_at dksX0_bestSize_0 1 rfl rfl)
theorem dX0_bestSize_2 : decode cX0_bestSize 2 = .ok (.aload_n 0, 1) := dk_42 (dk_at dksX0_bestSize_0 2 rfl rfl)
theorem dX0_bestSize_3 : decode cX0_bestSize 3 = .ok (.invokevirtual 70, 3) := dk_182 0 70 (dk_at dksX0_bestSize_0 3 rfl rfl)
theorem dX0_bestSize_6 : decode cX0_bestSize 6 = .ok (.i2l, 1) := dk_133 (dk_at dksX0_bestSize_0 6 rfl rfl)
theorem dX0_bestSize_7 : decode cX0_bestSize 7 = .ok (.lastore, 1) := dk_80 (dk_at dksX0_bestSize_0 7 rfl rfl)
theorem dX0_bestSize_8 : decode cX0_bestSize 8 = .ok (.goto 6, 3) := dk_167 0 6 (dk_at dksX0_bestSize_0 8 rfl rfl)
theorem dX0_bestSize_11 : decode cX0_bestSize 11 = .ok (.astore_n 2, 1) := dk_77 (dk_at dksX0_bestSize_0 11 rfl rfl)
theorem dX0_bestSize_12 : decode cX0_bestSize 12 = .ok (.iconst 1, 1) := dk_4 (dk_at dksX0_bestSize_0 12 rfl rfl)
theorem dX0_bestSize_13 : decode cX0_bestSize 13 = .ok (.ireturn, 1) := dk_172 (dk_at dksX0_bestSize_0 13 rfl rfl)
theorem dX0_bestSize_14 : decode cX0_bestSize 14 = .ok (.iconst 0, 1) := dk_3 (dk_at dksX0_bestSize_0 14 rfl rfl)
theorem dX0_bestSize_15 : decode cX0_bestSize 15 = .ok (.ireturn, 1) := dk_172 (dk_at dksX0_bestSize_0 15 rfl rfl)
abbrev cX0_matFor : ByteArray := method_20_code
def yX0_matFor : MethodName := ⟨RX0, "matFor", "(LJumpHall;I[J)I"⟩
def dkwX0_matFor_0 : List UInt8 := [44, 3, 42, 27, 182, 0, 73, 133, 80, 167, 0, 9, 78, 4, 172, 78, 5, 172, 3, 172]
abbrev dktX0_matFor_0 : List UInt8 := dkwX0_matFor_0 ++ []
theorem dksX0_matFor_0 : cX0_matFor.data.toList.drop 0 = dktX0_matFor_0 := by decide +kernel
theorem dX0_matFor_0 : decode cX0_matFor 0 = .ok (.aload_n 2, 1) := dk_44 (dk_at dksX0_matFor_0 0 rfl rfl)
theorem dX0_matFor_1 : decode cX0_matFor 1 = .ok (.iconst 0, 1) := dk_3 (dk_at dksX0_matFor_0 1 rfl rfl)
theorem dX0_matFor_2 : decode cX0_matFor 2 = .ok (.aload_n 0, 1) := dk_42 (dk_at dksX0_matFor_0 2 rfl rfl)
theorem dX0_matFor_3 : decode cX0_matFor 3 = .ok (.iload_n 1, 1) := dk_27 (dk_at dksX0_matFor_0 3 rfl rfl)
theorem dX0_matFor_4 : decode cX0_matFor 4 = .ok (.invokevirtual 73, 3) := dk_182 0 73 (dk_at dksX0_matFor_0 4 rfl rfl)
theorem dX0_matFor_7 : decode cX0_matFor 7 = .ok (.i2l, 1) := dk_133 (dk_at dksX0_matFor_0 7 rfl rfl)
theorem dX0_matFor_8 : decode cX0_matFor 8 = .ok (.lastore, 1) := dk_80 (dk_at dksX0_matFor_0 8 rfl rfl)
theorem dX0_matFor_9 : decode cX0_matFor 9 = .ok (.goto 9, 3) := dk_167 0 9 (dk_at dksX0_matFor_0 9 rfl rfl)
theorem dX0_matFor_12 : decode cX0_matFor 12 = .ok (.astore_n 3, 1) := dk_78 (dk_at dksX0_matFor_0 12 rfl rfl)
theorem dX0_matFor_13 : decode cX0_matFor 13 = .ok (.iconst 1, 1) := dk_4 (dk_at dksX0_matFor_0 13 rfl rfl)
theorem dX0_matFor_14 : decode cX0_matFor 14 = .ok (.ireturn, 1) := dk_172 (dk_at dksX0_matFor_0 14 rfl rfl)
theorem dX0_matFor_15 : decode cX0_matFor 15 = .ok (.astore_n 3, 1) := dk_78 (dk_at dksX0_matFor_0 15 rfl rfl)
theorem dX0_matFor_16 : decode cX0_matFor 16 = .ok (.iconst 2, 1) := dk_5 (dk_at dksX0_matFor_0 16 rfl rfl)
theorem dX0_matFor_17 : decode cX0_matFor 17 = .ok (.ireturn, 1) := dk_172 (dk_at dksX0_matFor_0 17 rfl rfl)
theorem dX0_matFor_18 : decode cX0_matFor 18 = .ok (.iconst 0, 1) := dk_3 (dk_at dksX0_matFor_0 18 rfl rfl)
theorem dX0_matFor_19 : decode cX0_matFor 19 = .ok (.ireturn, 1) := dk_172 (dk_at dksX0_matFor_0 19 rfl rfl)
abbrev cX0_guard : ByteArray := method_21_code
def yX0_guard : MethodName := ⟨RX0, "guard", "(LJumpHall;[J)I"⟩
def dkwX0_guard_0 : List UInt8 := [43, 3, 42, 182, 0, 76, 133, 80, 167, 0, 6, 77, 4, 172, 3, 172]
abbrev dktX0_guard_0 : List UInt8 := dkwX0_guard_0 ++ []
theorem dksX0_guard_0 : cX0_guard.data.toList.drop 0 = dktX0_guard_0 := by decide +kernel
theorem dX0_guard_0 : decode cX0_guard 0 = .ok (.aload_n 1, 1) := dk_43 (dk_at dksX0_guard_0 0 rfl rfl)
theorem dX0_guard_1 : decode cX0_guard 1 = .ok (.iconst 0, 1) := dk_3 (dk_at dksX0_guard_0 1 rfl rfl)
theorem dX0_guard_2 : decode cX0_guard 2 = .ok (.aload_n 0, 1) := dk_42 (dk_at dksX0_guard_0 2 rfl rfl)
theorem dX0_guard_3 : decode cX0_guard 3 = .ok (.invokevirtual 76, 3) := dk_182 0 76 (dk_at dksX0_guard_0 3 rfl rfl)
theorem dX0_guard_6 : decode cX0_guard 6 = .ok (.i2l, 1) := dk_133 (dk_at dksX0_guard_0 6 rfl rfl)
theorem dX0_guard_7 : decode cX0_guard 7 = .ok (.lastore, 1) := dk_80 (dk_at dksX0_guard_0 7 rfl rfl)
theorem dX0_guard_8 : decode cX0_guard 8 = .ok (.goto 6, 3) := dk_167 0 6 (dk_at dksX0_guard_0 8 rfl rfl)
theorem dX0_guard_11 : decode cX0_guard 11 = .ok (.astore_n 2, 1) := dk_77 (dk_at dksX0_guard_0 11 rfl rfl)
theorem dX0_guard_12 : decode cX0_guard 12 = .ok (.iconst 1, 1) := dk_4 (dk_at dksX0_guard_0 12 rfl rfl)
theorem dX0_guard_13 : decode cX0_guard 13 = .ok (.ireturn, 1) := dk_172 (dk_at dksX0_guard_0 13 rfl rfl)
theorem dX0_guard_14 : decode cX0_guard 14 = .ok (.iconst 0, 1) := dk_3 (dk_at dksX0_guard_0 14 rfl rfl)
theorem dX0_guard_15 : decode cX0_guard 15 = .ok (.ireturn, 1) := dk_172 (dk_at dksX0_guard_0 15 rfl rfl)
abbrev cX0_place : ByteArray := method_22_code
def yX0_place : MethodName := ⟨RX0, "place", "(LJumpHall;II[J)I"⟩
def dkwX0_place_0 : List UInt8 := [45, 3, 42, 27, 28, 182, 0, 79, 133, 80, 167, 0, 7, 58, 4, 4, 172, 3, 172]
abbrev dktX0_place_0 : List UInt8 := dkwX0_place_0 ++ []
theorem dksX0_place_0 : cX0_place.data.toList.drop 0 = dktX0_place_0 := by decide +kernel
theorem dX0_place_0 : decode cX0_place 0 = .ok (.aload_n 3, 1) := dk_45 (dk_at dksX0_place_0 0 rfl rfl)
theorem dX0_place_1 : decode cX0_place 1 = .ok (.iconst 0, 1) := dk_3 (dk_at dksX0_place_0 1 rfl rfl)
theorem dX0_place_2 : decode cX0_place 2 = .ok (.aload_n 0, 1) := dk_42 (dk_at dksX0_place_0 2 rfl rfl)
theorem dX0_place_3 : decode cX0_place 3 = .ok (.iload_n 1, 1) := dk_27 (dk_at dksX0_place_0 3 rfl rfl)
theorem dX0_place_4 : decode cX0_place 4 = .ok (.iload_n 2, 1) := dk_28 (dk_at dksX0_place_0 4 rfl rfl)
theorem dX0_place_5 : decode cX0_place 5 = .ok (.invokevirtual 79, 3) := dk_182 0 79 (dk_at dksX0_place_0 5 rfl rfl)
theorem dX0_place_8 : decode cX0_place 8 = .ok (.i2l, 1) := dk_133 (dk_at dksX0_place_0 8 rfl rfl)
theorem dX0_place_9 : decode cX0_place 9 = .ok (.lastore, 1) := dk_80 (dk_at dksX0_place_0 9 rfl rfl)
theorem dX0_place_10 : decode cX0_place 10 = .ok (.goto 7, 3) := dk_167 0 7 (dk_at dksX0_place_0 10 rfl rfl)
theorem dX0_place_13 : decode cX0_place 13 = .ok (.astore 4, 2) := dk_58 4 (dk_at dksX0_place_0 13 rfl rfl)
theorem dX0_place_15 : decode cX0_place 15 = .ok (.iconst 1, 1) := dk_4 (dk_at dksX0_place_0 15 rfl rfl)
theorem dX0_place_16 : decode cX0_place 16 = .ok (.ireturn, 1) := dk_172 (dk_at dksX0_place_0 16 rfl rfl)
theorem dX0_place_17 : decode cX0_place 17 = .ok (.iconst 0, 1) := dk_3 (dk_at dksX0_place_0 17 rfl rfl)
theorem dX0_place_18 : decode cX0_place 18 = .ok (.ireturn, 1) := dk_172 (dk_at dksX0_place_0 18 rfl rfl)
abbrev cX0_at : ByteArray := method_23_code
def yX0_at : MethodName := ⟨RX0, "at", "(LJumpHall;I[J)I"⟩
def dkwX0_at_0 : List UInt8 := [44, 3, 42, 27, 182, 0, 82, 133, 80, 167, 0, 9, 78, 4, 172, 78, 5, 172, 3, 172]
abbrev dktX0_at_0 : List UInt8 := dkwX0_at_0 ++ []
theorem dksX0_at_0 : cX0_at.data.toList.drop 0 = dktX0_at_0 := by decide +kernel
theorem dX0_at_0 : decode cX0_at 0 = .ok (.aload_n 2, 1) := dk_44 (dk_at dksX0_at_0 0 rfl rfl)
theorem dX0_at_1 : decode cX0_at 1 = .ok (.iconst 0, 1) := dk_3 (dk_at dksX0_at_0 1 rfl rfl)
theorem dX0_at_2 : decode cX0_at 2 = .ok (.aload_n 0, 1) := dk_42 (dk_at dksX0_at_0 2 rfl rfl)
theorem dX0_at_3 : decode cX0_at 3 = .ok (.iload_n 1, 1) := dk_27 (dk_at dksX0_at_0 3 rfl rfl)
theorem dX0_at_4 : decode cX0_at 4 = .ok (.invokevirtual 82, 3) := dk_182 0 82 (dk_at dksX0_at_0 4 rfl rfl)
theorem dX0_at_7 : decode cX0_at 7 = .ok (.i2l, 1) := dk_133 (dk_at dksX0_at_0 7 rfl rfl)
theorem dX0_at_8 : decode cX0_at 8 = .ok (.lastore, 1) := dk_80 (dk_at dksX0_at_0 8 rfl rfl)
theorem dX0_at_9 : decode cX0_at 9 = .ok (.goto 9, 3) := dk_167 0 9 (dk_at dksX0_at_0 9 rfl rfl)
theorem dX0_at_12 : decode cX0_at 12 = .ok (.astore_n 3, 1) := dk_78 (dk_at dksX0_at_0 12 rfl rfl)
theorem dX0_at_13 : decode cX0_at 13 = .ok (.iconst 1, 1) := dk_4 (dk_at dksX0_at_0 13 rfl rfl)
theorem dX0_at_14 : decode cX0_at 14 = .ok (.ireturn, 1) := dk_172 (dk_at dksX0_at_0 14 rfl rfl)
theorem dX0_at_15 : decode cX0_at 15 = .ok (.astore_n 3, 1) := dk_78 (dk_at dksX0_at_0 15 rfl rfl)
theorem dX0_at_16 : decode cX0_at 16 = .ok (.iconst 2, 1) := dk_5 (dk_at dksX0_at_0 16 rfl rfl)
theorem dX0_at_17 : decode cX0_at 17 = .ok (.ireturn, 1) := dk_172 (dk_at dksX0_at_0 17 rfl rfl)
theorem dX0_at_18 : decode cX0_at 18 = .ok (.iconst 0, 1) := dk_3 (dk_at dksX0_at_0 18 rfl rfl)
theorem dX0_at_19 : decode cX0_at 19 = .ok (.ireturn, 1) := dk_172 (dk_at dksX0_at_0 19 rfl rfl)
abbrev cX0_book : ByteArray := method_24_code
def yX0_book : MethodName := ⟨RX0, "book", "(LJumpHall;IIII[J)I"⟩
def dkwX0_book_1 : List UInt8 := [172, 3, 172]
abbrev dktX0_book_1 : List UInt8 := dkwX0_book_1 ++ []
def dkwX0_book_0 : List UInt8 := [25, 5, 3, 42, 27, 28, 29, 21, 4, 182, 0, 85, 133, 80, 167, 0, 11, 58, 6, 4, 172, 58, 6, 5]
abbrev dktX0_book_0 : List UInt8 := dkwX0_book_0 ++ dktX0_book_1
theorem dksX0_book_0 : cX0_book.data.toList.drop 0 = dktX0_book_0 := by decide +kernel
theorem dksX0_book_1 : cX0_book.data.toList.drop 24 = dktX0_book_1 := dk_seg dksX0_book_0 24 rfl rfl
theorem dX0_book_0 : decode cX0_book 0 = .ok (.aload 5, 2) := dk_25 5 (dk_at dksX0_book_0 0 rfl rfl)
theorem dX0_book_2 : decode cX0_book 2 = .ok (.iconst 0, 1) := dk_3 (dk_at dksX0_book_0 2 rfl rfl)
theorem dX0_book_3 : decode cX0_book 3 = .ok (.aload_n 0, 1) := dk_42 (dk_at dksX0_book_0 3 rfl rfl)
theorem dX0_book_4 : decode cX0_book 4 = .ok (.iload_n 1, 1) := dk_27 (dk_at dksX0_book_0 4 rfl rfl)
theorem dX0_book_5 : decode cX0_book 5 = .ok (.iload_n 2, 1) := dk_28 (dk_at dksX0_book_0 5 rfl rfl)
theorem dX0_book_6 : decode cX0_book 6 = .ok (.iload_n 3, 1) := dk_29 (dk_at dksX0_book_0 6 rfl rfl)
theorem dX0_book_7 : decode cX0_book 7 = .ok (.iload 4, 2) := dk_21 4 (dk_at dksX0_book_0 7 rfl rfl)
theorem dX0_book_9 : decode cX0_book 9 = .ok (.invokevirtual 85, 3) := dk_182 0 85 (dk_at dksX0_book_0 9 rfl rfl)
theorem dX0_book_12 : decode cX0_book 12 = .ok (.i2l, 1) := dk_133 (dk_at dksX0_book_0 12 rfl rfl)
theorem dX0_book_13 : decode cX0_book 13 = .ok (.lastore, 1) := dk_80 (dk_at dksX0_book_0 13 rfl rfl)
theorem dX0_book_14 : decode cX0_book 14 = .ok (.goto 11, 3) := dk_167 0 11 (dk_at dksX0_book_0 14 rfl rfl)
theorem dX0_book_17 : decode cX0_book 17 = .ok (.astore 6, 2) := dk_58 6 (dk_at dksX0_book_0 17 rfl rfl)
theorem dX0_book_19 : decode cX0_book 19 = .ok (.iconst 1, 1) := dk_4 (dk_at dksX0_book_0 19 rfl rfl)
theorem dX0_book_20 : decode cX0_book 20 = .ok (.ireturn, 1) := dk_172 (dk_at dksX0_book_0 20 rfl rfl)
theorem dX0_book_21 : decode cX0_book 21 = .ok (.astore 6, 2) := dk_58 6 (dk_at dksX0_book_0 21 rfl rfl)
theorem dX0_book_23 : decode cX0_book 23 = .ok (.iconst 2, 1) := dk_5 (dk_at dksX0_book_0 23 rfl rfl)
theorem dX0_book_24 : decode cX0_book 24 = .ok (.ireturn, 1) := dk_172 (dk_at dksX0_book_1 0 rfl rfl)
theorem dX0_book_25 : decode cX0_book 25 = .ok (.iconst 0, 1) := dk_3 (dk_at dksX0_book_1 1 rfl rfl)
theorem dX0_book_26 : decode cX0_book 26 = .ok (.ireturn, 1) := dk_172 (dk_at dksX0_book_1 2 rfl rfl)
abbrev cX0_cancel : ByteArray := method_25_code
def yX0_cancel : MethodName := ⟨RX0, "cancel", "(LJumpHall;I[J)I"⟩
def dkwX0_cancel_0 : List UInt8 := [44, 3, 42, 27, 182, 0, 89, 133, 80, 167, 0, 9, 78, 4, 172, 78, 5, 172, 3, 172]
abbrev dktX0_cancel_0 : List UInt8 := dkwX0_cancel_0 ++ []
theorem dksX0_cancel_0 : cX0_cancel.data.toList.drop 0 = dktX0_cancel_0 := by decide +kernel
theorem dX0_cancel_0 : decode cX0_cancel 0 = .ok (.aload_n 2, 1) := dk_44 (dk_at dksX0_cancel_0 0 rfl rfl)
theorem dX0_cancel_1 : decode cX0_cancel 1 = .ok (.iconst 0, 1) := dk_3 (dk_at dksX0_cancel_0 1 rfl rfl)
theorem dX0_cancel_2 : decode cX0_cancel 2 = .ok (.aload_n 0, 1) := dk_42 (dk_at dksX0_cancel_0 2 rfl rfl)
theorem dX0_cancel_3 : decode cX0_cancel 3 = .ok (.iload_n 1, 1) := dk_27 (dk_at dksX0_cancel_0 3 rfl rfl)
theorem dX0_cancel_4 : decode cX0_cancel 4 = .ok (.invokevirtual 89, 3) := dk_182 0 89 (dk_at dksX0_cancel_0 4 rfl rfl)
theorem dX0_cancel_7 : decode cX0_cancel 7 = .ok (.i2l, 1) := dk_133 (dk_at dksX0_cancel_0 7 rfl rfl)
theorem dX0_cancel_8 : decode cX0_cancel 8 = .ok (.lastore, 1) := dk_80 (dk_at dksX0_cancel_0 8 rfl rfl)
theorem dX0_cancel_9 : decode cX0_cancel 9 = .ok (.goto 9, 3) := dk_167 0 9 (dk_at dksX0_cancel_0 9 rfl rfl)
theorem dX0_cancel_12 : decode cX0_cancel 12 = .ok (.astore_n 3, 1) := dk_78 (dk_at dksX0_cancel_0 12 rfl rfl)
theorem dX0_cancel_13 : decode cX0_cancel 13 = .ok (.iconst 1, 1) := dk_4 (dk_at dksX0_cancel_0 13 rfl rfl)
theorem dX0_cancel_14 : decode cX0_cancel 14 = .ok (.ireturn, 1) := dk_172 (dk_at dksX0_cancel_0 14 rfl rfl)
theorem dX0_cancel_15 : decode cX0_cancel 15 = .ok (.astore_n 3, 1) := dk_78 (dk_at dksX0_cancel_0 15 rfl rfl)
theorem dX0_cancel_16 : decode cX0_cancel 16 = .ok (.iconst 2, 1) := dk_5 (dk_at dksX0_cancel_0 16 rfl rfl)
theorem dX0_cancel_17 : decode cX0_cancel 17 = .ok (.ireturn, 1) := dk_172 (dk_at dksX0_cancel_0 17 rfl rfl)
theorem dX0_cancel_18 : decode cX0_cancel 18 = .ok (.iconst 0, 1) := dk_3 (dk_at dksX0_cancel_0 18 rfl rfl)
theorem dX0_cancel_19 : decode cX0_cancel 19 = .ok (.ireturn, 1) := dk_172 (dk_at dksX0_cancel_0 19 rfl rfl)
abbrev cX0_partyOf : ByteArray := method_26_code
def yX0_partyOf : MethodName := ⟨RX0, "partyOf", "(LJumpHall;II[J)I"⟩
def dkwX0_partyOf_0 : List UInt8 := [45, 3, 42, 27, 28, 182, 0, 92, 133, 80, 167, 0, 11, 58, 4, 4, 172, 58, 4, 5, 172, 3, 172]
abbrev dktX0_partyOf_0 : List UInt8 := dkwX0_partyOf_0 ++ []
theorem dksX0_partyOf_0 : cX0_partyOf.data.toList.drop 0 = dktX0_partyOf_0 := by decide +kernel
theorem dX0_partyOf_0 : decode cX0_partyOf 0 = .ok (.aload_n 3, 1) := dk_45 (dk_at dksX0_partyOf_0 0 rfl rfl)
theorem dX0_partyOf_1 : decode cX0_partyOf 1 = .ok (.iconst 0, 1) := dk_3 (dk_at dksX0_partyOf_0 1 rfl rfl)
theorem dX0_partyOf_2 : decode cX0_partyOf 2 = .ok (.aload_n 0, 1) := dk_42 (dk_at dksX0_partyOf_0 2 rfl rfl)
theorem dX0_partyOf_3 : decode cX0_partyOf 3 = .ok (.iload_n 1, 1) := dk_27 (dk_at dksX0_partyOf_0 3 rfl rfl)
theorem dX0_partyOf_4 : decode cX0_partyOf 4 = .ok (.iload_n 2, 1) := dk_28 (dk_at dksX0_partyOf_0 4 rfl rfl)
theorem dX0_partyOf_5 : decode cX0_partyOf 5 = .ok (.invokevirtual 92, 3) := dk_182 0 92 (dk_at dksX0_partyOf_0 5 rfl rfl)
theorem dX0_partyOf_8 : decode cX0_partyOf 8 = .ok (.i2l, 1) := dk_133 (dk_at dksX0_partyOf_0 8 rfl rfl)
theorem dX0_partyOf_9 : decode cX0_partyOf 9 = .ok (.lastore, 1) := dk_80 (dk_at dksX0_partyOf_0 9 rfl rfl)
theorem dX0_partyOf_10 : decode cX0_partyOf 10 = .ok (.goto 11, 3) := dk_167 0 11 (dk_at dksX0_partyOf_0 10 rfl rfl)
theorem dX0_partyOf_13 : decode cX0_partyOf 13 = .ok (.astore 4, 2) := dk_58 4 (dk_at dksX0_partyOf_0 13 rfl rfl)
theorem dX0_partyOf_15 : decode cX0_partyOf 15 = .ok (.iconst 1, 1) := dk_4 (dk_at dksX0_partyOf_0 15 rfl rfl)
theorem dX0_partyOf_16 : decode cX0_partyOf 16 = .ok (.ireturn, 1) := dk_172 (dk_at dksX0_partyOf_0 16 rfl rfl)
theorem dX0_partyOf_17 : decode cX0_partyOf 17 = .ok (.astore 4, 2) := dk_58 4 (dk_at dksX0_partyOf_0 17 rfl rfl)
theorem dX0_partyOf_19 : decode cX0_partyOf 19 = .ok (.iconst 2, 1) := dk_5 (dk_at dksX0_partyOf_0 19 rfl rfl)
theorem dX0_partyOf_20 : decode cX0_partyOf 20 = .ok (.ireturn, 1) := dk_172 (dk_at dksX0_partyOf_0 20 rfl rfl)
theorem dX0_partyOf_21 : decode cX0_partyOf 21 = .ok (.iconst 0, 1) := dk_3 (dk_at dksX0_partyOf_0 21 rfl rfl)
theorem dX0_partyOf_22 : decode cX0_partyOf 22 = .ok (.ireturn, 1) := dk_172 (dk_at dksX0_partyOf_0 22 rfl rfl)
abbrev cX0_nextParty : ByteArray := method_27_code
def yX0_nextParty : MethodName := ⟨RX0, "nextParty", "(LJumpHall;[J)I"⟩
def dkwX0_nextParty_0 : List UInt8 := [43, 3, 42, 182, 0, 95, 133, 80, 167, 0, 6, 77, 4, 172, 3, 172]
abbrev dktX0_nextParty_0 : List UInt8 := dkwX0_nextParty_0 ++ []
theorem dksX0_nextParty_0 : cX0_nextParty.data.toList.drop 0 = dktX0_nextParty_0 := by decide +kernel
theorem dX0_nextParty_0 : decode cX0_nextParty 0 = .ok (.aload_n 1, 1) := dk_43 (dk_at dksX0_nextParty_0 0 rfl rfl)
theorem dX0_nextParty_1 : decode cX0_nextParty 1 = .ok (.iconst 0, 1) := dk_3 (dk_at dksX0_nextParty_0 1 rfl rfl)
theorem dX0_nextParty_2 : decode cX0_nextParty 2 = .ok (.aload_n 0, 1) := dk_42 (dk_at dksX0_nextParty_0 2 rfl rfl)
theorem dX0_nextParty_3 : decode cX0_nextParty 3 = .ok (.invokevirtual 95, 3) := dk_182 0 95 (dk_at dksX0_nextParty_0 3 rfl rfl)
theorem dX0_nextParty_6 : decode cX0_nextParty 6 = .ok (.i2l, 1) := dk_133 (dk_at dksX0_nextParty_0 6 rfl rfl)
theorem dX0_nextParty_7 : decode cX0_nextParty 7 = .ok (.lastore, 1) := dk_80 (dk_at dksX0_nextParty_0 7 rfl rfl)
theorem dX0_nextParty_8 : decode cX0_nextParty 8 = .ok (.goto 6, 3) := dk_167 0 6 (dk_at dksX0_nextParty_0 8 rfl rfl)
theorem dX0_nextParty_11 : decode cX0_nextParty 11 = .ok (.astore_n 2, 1) := dk_77 (dk_at dksX0_nextParty_0 11 rfl rfl)
theorem dX0_nextParty_12 : decode cX0_nextParty 12 = .ok (.iconst 1, 1) := dk_4 (dk_at dksX0_nextParty_0 12 rfl rfl)
theorem dX0_nextParty_13 : decode cX0_nextParty 13 = .ok (.ireturn, 1) := dk_172 (dk_at dksX0_nextParty_0 13 rfl rfl)
theorem dX0_nextParty_14 : decode cX0_nextParty 14 = .ok (.iconst 0, 1) := dk_3 (dk_at dksX0_nextParty_0 14 rfl rfl)
theorem dX0_nextParty_15 : decode cX0_nextParty 15 = .ok (.ireturn, 1) := dk_172 (dk_at dksX0_nextParty_0 15 rfl rfl)
abbrev cX0_pass : ByteArray := method_28_code
def yX0_pass : MethodName := ⟨RX0, "pass", "(LJumpHall;I[J)I"⟩
def dkwX0_pass_0 : List UInt8 := [44, 3, 42, 27, 182, 0, 98, 133, 80, 167, 0, 6, 78, 4, 172, 3, 172]
abbrev dktX0_pass_0 : List UInt8 := dkwX0_pass_0 ++ []
theorem dksX0_pass_0 : cX0_pass.data.toList.drop 0 = dktX0_pass_0 := by decide +kernel
theorem dX0_pass_0 : decode cX0_pass 0 = .ok (.aload_n 2, 1) := dk_44 (dk_at dksX0_pass_0 0 rfl rfl)
theorem dX0_pass_1 : decode cX0_pass 1 = .ok (.iconst 0, 1) := dk_3 (dk_at dksX0_pass_0 1 rfl rfl)
theorem dX0_pass_2 : decode cX0_pass 2 = .ok (.aload_n 0, 1) := dk_42 (dk_at dksX0_pass_0 2 rfl rfl)
theorem dX0_pass_3 : decode cX0_pass 3 = .ok (.iload_n 1, 1) := dk_27 (dk_at dksX0_pass_0 3 rfl rfl)
theorem dX0_pass_4 : decode cX0_pass 4 = .ok (.invokevirtual 98, 3) := dk_182 0 98 (dk_at dksX0_pass_0 4 rfl rfl)
theorem dX0_pass_7 : decode cX0_pass 7 = .ok (.i2l, 1) := dk_133 (dk_at dksX0_pass_0 7 rfl rfl)
theorem dX0_pass_8 : decode cX0_pass 8 = .ok (.lastore, 1) := dk_80 (dk_at dksX0_pass_0 8 rfl rfl)
theorem dX0_pass_9 : decode cX0_pass 9 = .ok (.goto 6, 3) := dk_167 0 6 (dk_at dksX0_pass_0 9 rfl rfl)
theorem dX0_pass_12 : decode cX0_pass 12 = .ok (.astore_n 3, 1) := dk_78 (dk_at dksX0_pass_0 12 rfl rfl)
theorem dX0_pass_13 : decode cX0_pass 13 = .ok (.iconst 1, 1) := dk_4 (dk_at dksX0_pass_0 13 rfl rfl)
theorem dX0_pass_14 : decode cX0_pass 14 = .ok (.ireturn, 1) := dk_172 (dk_at dksX0_pass_0 14 rfl rfl)
theorem dX0_pass_15 : decode cX0_pass 15 = .ok (.iconst 0, 1) := dk_3 (dk_at dksX0_pass_0 15 rfl rfl)
theorem dX0_pass_16 : decode cX0_pass 16 = .ok (.ireturn, 1) := dk_172 (dk_at dksX0_pass_0 16 rfl rfl)
abbrev cX0_tell : ByteArray := method_29_code
def yX0_tell : MethodName := ⟨RX0, "tell", "(LJumpHall;I[J)I"⟩
def dkwX0_tell_0 : List UInt8 := [44, 3, 42, 27, 182, 0, 101, 133, 80, 167, 0, 6, 78, 4, 172, 3, 172]
abbrev dktX0_tell_0 : List UInt8 := dkwX0_tell_0 ++ []
theorem dksX0_tell_0 : cX0_tell.data.toList.drop 0 = dktX0_tell_0 := by decide +kernel
theorem dX0_tell_0 : decode cX0_tell 0 = .ok (.aload_n 2, 1) := dk_44 (dk_at dksX0_tell_0 0 rfl rfl)
theorem dX0_tell_1 : decode cX0_tell 1 = .ok (.iconst 0, 1) := dk_3 (dk_at dksX0_tell_0 1 rfl rfl)
theorem dX0_tell_2 : decode cX0_tell 2 = .ok (.aload_n 0, 1) := dk_42 (dk_at dksX0_tell_0 2 rfl rfl)
theorem dX0_tell_3 : decode cX0_tell 3 = .ok (.iload_n 1, 1) := dk_27 (dk_at dksX0_tell_0 3 rfl rfl)
theorem dX0_tell_4 : decode cX0_tell 4 = .ok (.invokevirtual 101, 3) := dk_182 0 101 (dk_at dksX0_tell_0 4 rfl rfl)
theorem dX0_tell_7 : decode cX0_tell 7 = .ok (.i2l, 1) := dk_133 (dk_at dksX0_tell_0 7 rfl rfl)
theorem dX0_tell_8 : decode cX0_tell 8 = .ok (.lastore, 1) := dk_80 (dk_at dksX0_tell_0 8 rfl rfl)
theorem dX0_tell_9 : decode cX0_tell 9 = .ok (.goto 6, 3) := dk_167 0 6 (dk_at dksX0_tell_0 9 rfl rfl)
theorem dX0_tell_12 : decode cX0_tell 12 = .ok (.astore_n 3, 1) := dk_78 (dk_at dksX0_tell_0 12 rfl rfl)
theorem dX0_tell_13 : decode cX0_tell 13 = .ok (.iconst 1, 1) := dk_4 (dk_at dksX0_tell_0 13 rfl rfl)
theorem dX0_tell_14 : decode cX0_tell 14 = .ok (.ireturn, 1) := dk_172 (dk_at dksX0_tell_0 14 rfl rfl)
theorem dX0_tell_15 : decode cX0_tell 15 = .ok (.iconst 0, 1) := dk_3 (dk_at dksX0_tell_0 15 rfl rfl)
theorem dX0_tell_16 : decode cX0_tell 16 = .ok (.ireturn, 1) := dk_172 (dk_at dksX0_tell_0 16 rfl rfl)
abbrev cX0_character : ByteArray := method_30_code
def yX0_character : MethodName := ⟨RX0, "character", "(LJumpHall;I[J)I"⟩
def dkwX0_character_0 : List UInt8 := [44, 3, 42, 27, 182, 0, 104, 133, 80, 167, 0, 6, 78, 4, 172, 3, 172]
abbrev dktX0_character_0 : List UInt8 := dkwX0_character_0 ++ []
theorem dksX0_character_0 : cX0_character.data.toList.drop 0 = dktX0_character_0 := by decide +kernel
theorem dX0_character_0 : decode cX0_character 0 = .ok (.aload_n 2, 1) := dk_44 (dk_at dksX0_character_0 0 rfl rfl)
theorem dX0_character_1 : decode cX0_character 1 = .ok (.iconst 0, 1) := dk_3 (dk_at dksX0_character_0 1 rfl rfl)
theorem dX0_character_2 : decode cX0_character 2 = .ok (.aload_n 0, 1) := dk_42 (dk_at dksX0_character_0 2 rfl rfl)
theorem dX0_character_3 : decode cX0_character 3 = .ok (.iload_n 1, 1) := dk_27 (dk_at dksX0_character_0 3 rfl rfl)
theorem dX0_character_4 : decode cX0_character 4 = .ok (.invokevirtual 104, 3) := dk_182 0 104 (dk_at dksX0_character_0 4 rfl rfl)
theorem dX0_character_7 : decode cX0_character 7 = .ok (.i2l, 1) := dk_133 (dk_at dksX0_character_0 7 rfl rfl)
theorem dX0_character_8 : decode cX0_character 8 = .ok (.lastore, 1) := dk_80 (dk_at dksX0_character_0 8 rfl rfl)
theorem dX0_character_9 : decode cX0_character 9 = .ok (.goto 6, 3) := dk_167 0 6 (dk_at dksX0_character_0 9 rfl rfl)
theorem dX0_character_12 : decode cX0_character 12 = .ok (.astore_n 3, 1) := dk_78 (dk_at dksX0_character_0 12 rfl rfl)
theorem dX0_character_13 : decode cX0_character 13 = .ok (.iconst 1, 1) := dk_4 (dk_at dksX0_character_0 13 rfl rfl)
theorem dX0_character_14 : decode cX0_character 14 = .ok (.ireturn, 1) := dk_172 (dk_at dksX0_character_0 14 rfl rfl)
theorem dX0_character_15 : decode cX0_character 15 = .ok (.iconst 0, 1) := dk_3 (dk_at dksX0_character_0 15 rfl rfl)
theorem dX0_character_16 : decode cX0_character 16 = .ok (.ireturn, 1) := dk_172 (dk_at dksX0_character_0 16 rfl rfl)
abbrev cX0_meanWeight : ByteArray := method_31_code
def yX0_meanWeight : MethodName := ⟨RX0, "meanWeight", "(LJumpHall;[D)I"⟩
def dkwX0_meanWeight_0 : List UInt8 := [43, 3, 42, 182, 0, 108, 141, 82, 167, 0, 6, 77, 4, 172, 3, 172]
abbrev dktX0_meanWeight_0 : List UInt8 := dkwX0_meanWeight_0 ++ []
theorem dksX0_meanWeight_0 : cX0_meanWeight.data.toList.drop 0 = dktX0_meanWeight_0 := by decide +kernel
theorem dX0_meanWeight_0 : decode cX0_meanWeight 0 = .ok (.aload_n 1, 1) := dk_43 (dk_at dksX0_meanWeight_0 0 rfl rfl)
theorem dX0_meanWeight_1 : decode cX0_meanWeight 1 = .ok (.iconst 0, 1) := dk_3 (dk_at dksX0_meanWeight_0 1 rfl rfl)
theorem dX0_meanWeight_2 : decode cX0_meanWeight 2 = .ok (.aload_n 0, 1) := dk_42 (dk_at dksX0_meanWeight_0 2 rfl rfl)
theorem dX0_meanWeight_3 : decode cX0_meanWeight 3 = .ok (.invokevirtual 108, 3) := dk_182 0 108 (dk_at dksX0_meanWeight_0 3 rfl rfl)
theorem dX0_meanWeight_6 : decode cX0_meanWeight 6 = .ok (.f2d, 1) := dk_141 (dk_at dksX0_meanWeight_0 6 rfl rfl)
theorem dX0_meanWeight_7 : decode cX0_meanWeight 7 = .ok (.dastore, 1) := dk_82 (dk_at dksX0_meanWeight_0 7 rfl rfl)
theorem dX0_meanWeight_8 : decode cX0_meanWeight 8 = .ok (.goto 6, 3) := dk_167 0 6 (dk_at dksX0_meanWeight_0 8 rfl rfl)
theorem dX0_meanWeight_11 : decode cX0_meanWeight 11 = .ok (.astore_n 2, 1) := dk_77 (dk_at dksX0_meanWeight_0 11 rfl rfl)
theorem dX0_meanWeight_12 : decode cX0_meanWeight 12 = .ok (.iconst 1, 1) := dk_4 (dk_at dksX0_meanWeight_0 12 rfl rfl)
theorem dX0_meanWeight_13 : decode cX0_meanWeight 13 = .ok (.ireturn, 1) := dk_172 (dk_at dksX0_meanWeight_0 13 rfl rfl)
theorem dX0_meanWeight_14 : decode cX0_meanWeight 14 = .ok (.iconst 0, 1) := dk_3 (dk_at dksX0_meanWeight_0 14 rfl rfl)
theorem dX0_meanWeight_15 : decode cX0_meanWeight 15 = .ok (.ireturn, 1) := dk_172 (dk_at dksX0_meanWeight_0 15 rfl rfl)
abbrev cX0_brokenShare : ByteArray := method_32_code
def yX0_brokenShare : MethodName := ⟨RX0, "brokenShare", "(LJumpHall;[D)I"⟩
def dkwX0_brokenShare_0 : List UInt8 := [43, 3, 42, 182, 0, 114, 82, 167, 0, 6, 77, 4, 172, 3, 172]
abbrev dktX0_brokenShare_0 : List UInt8 := dkwX0_brokenShare_0 ++ []
theorem dksX0_brokenShare_0 : cX0_brokenShare.data.toList.drop 0 = dktX0_brokenShare_0 := by decide +kernel
theorem dX0_brokenShare_0 : decode cX0_brokenShare 0 = .ok (.aload_n 1, 1) := dk_43 (dk_at dksX0_brokenShare_0 0 rfl rfl)
theorem dX0_brokenShare_1 : decode cX0_brokenShare 1 = .ok (.iconst 0, 1) := dk_3 (dk_at dksX0_brokenShare_0 1 rfl rfl)
theorem dX0_brokenShare_2 : decode cX0_brokenShare 2 = .ok (.aload_n 0, 1) := dk_42 (dk_at dksX0_brokenShare_0 2 rfl rfl)
theorem dX0_brokenShare_3 : decode cX0_brokenShare 3 = .ok (.invokevirtual 114, 3) := dk_182 0 114 (dk_at dksX0_brokenShare_0 3 rfl rfl)
theorem dX0_brokenShare_6 : decode cX0_brokenShare 6 = .ok (.dastore, 1) := dk_82 (dk_at dksX0_brokenShare_0 6 rfl rfl)
theorem dX0_brokenShare_7 : decode cX0_brokenShare 7 = .ok (.goto 6, 3) := dk_167 0 6 (dk_at dksX0_brokenShare_0 7 rfl rfl)
theorem dX0_brokenShare_10 : decode cX0_brokenShare 10 = .ok (.astore_n 2, 1) := dk_77 (dk_at dksX0_brokenShare_0 10 rfl rfl)
theorem dX0_brokenShare_11 : decode cX0_brokenShare 11 = .ok (.iconst 1, 1) := dk_4 (dk_at dksX0_brokenShare_0 11 rfl rfl)
theorem dX0_brokenShare_12 : decode cX0_brokenShare 12 = .ok (.ireturn, 1) := dk_172 (dk_at dksX0_brokenShare_0 12 rfl rfl)
theorem dX0_brokenShare_13 : decode cX0_brokenShare 13 = .ok (.iconst 0, 1) := dk_3 (dk_at dksX0_brokenShare_0 13 rfl rfl)
theorem dX0_brokenShare_14 : decode cX0_brokenShare 14 = .ok (.ireturn, 1) := dk_172 (dk_at dksX0_brokenShare_0 14 rfl rfl)
abbrev cX0_account : ByteArray := method_33_code
def yX0_account : MethodName := ⟨RX0, "account", "(LJumpHall;I[J)I"⟩
def dkwX0_account_0 : List UInt8 := [44, 3, 42, 27, 182, 0, 118, 133, 80, 167, 0, 6, 78, 4, 172, 3, 172]
abbrev dktX0_account_0 : List UInt8 := dkwX0_account_0 ++ []
theorem dksX0_account_0 : cX0_account.data.toList.drop 0 = dktX0_account_0 := by decide +kernel
theorem dX0_account_0 : decode cX0_account 0 = .ok (.aload_n 2, 1) := dk_44 (dk_at dksX0_account_0 0 rfl rfl)
theorem dX0_account_1 : decode cX0_account 1 = .ok (.iconst 0, 1) := dk_3 (dk_at dksX0_account_0 1 rfl rfl)
theorem dX0_account_2 : decode cX0_account 2 = .ok (.aload_n 0, 1) := dk_42 (dk_at dksX0_account_0 2 rfl rfl)
theorem dX0_account_3 : decode cX0_account 3 = .ok (.iload_n 1, 1) := dk_27 (dk_at dksX0_account_0 3 rfl rfl)
theorem dX0_account_4 : decode cX0_account 4 = .ok (.invokevirtual 118, 3) := dk_182 0 118 (dk_at dksX0_account_0 4 rfl rfl)
theorem dX0_account_7 : decode cX0_account 7 = .ok (.i2l, 1) := dk_133 (dk_at dksX0_account_0 7 rfl rfl)
theorem dX0_account_8 : decode cX0_account 8 = .ok (.lastore, 1) := dk_80 (dk_at dksX0_account_0 8 rfl rfl)
theorem dX0_account_9 : decode cX0_account 9 = .ok (.goto 6, 3) := dk_167 0 6 (dk_at dksX0_account_0 9 rfl rfl)
theorem dX0_account_12 : decode cX0_account 12 = .ok (.astore_n 3, 1) := dk_78 (dk_at dksX0_account_0 12 rfl rfl)
theorem dX0_account_13 : decode cX0_account 13 = .ok (.iconst 1, 1) := dk_4 (dk_at dksX0_account_0 13 rfl rfl)
theorem dX0_account_14 : decode cX0_account 14 = .ok (.ireturn, 1) := dk_172 (dk_at dksX0_account_0 14 rfl rfl)
theorem dX0_account_15 : decode cX0_account 15 = .ok (.iconst 0, 1) := dk_3 (dk_at dksX0_account_0 15 rfl rfl)
theorem dX0_account_16 : decode cX0_account 16 = .ok (.ireturn, 1) := dk_172 (dk_at dksX0_account_0 16 rfl rfl)
abbrev cX0_append : ByteArray := method_34_code
def yX0_append : MethodName := ⟨RX0, "append", "(LJumpHall;C[J)I"⟩
def dkwX0_append_0 : List UInt8 := [44, 3, 42, 27, 182, 0, 121, 133, 80, 167, 0, 9, 78, 4, 172, 78, 5, 172, 3, 172]
abbrev dktX0_append_0 : List UInt8 := dkwX0_append_0 ++ []
theorem dksX0_append_0 : cX0_append.data.toList.drop 0 = dktX0_append_0 := by decide +kernel
theorem dX0_append_0 : decode cX0_append 0 = .ok (.aload_n 2, 1) := dk_44 (dk_at dksX0_append_0 0 rfl rfl)
theorem dX0_append_1 : decode cX0_append 1 = .ok (.iconst 0, 1) := dk_3 (dk_at dksX0_append_0 1 rfl rfl)
theorem dX0_append_2 : decode cX0_append 2 = .ok (.aload_n 0, 1) := dk_42 (dk_at dksX0_append_0 2 rfl rfl)
theorem dX0_append_3 : decode cX0_append 3 = .ok (.iload_n 1, 1) := dk_27 (dk_at dksX0_append_0 3 rfl rfl)
theorem dX0_append_4 : decode cX0_append 4 = .ok (.invokevirtual 121, 3) := dk_182 0 121 (dk_at dksX0_append_0 4 rfl rfl)
theorem dX0_append_7 : decode cX0_append 7 = .ok (.i2l, 1) := dk_133 (dk_at dksX0_append_0 7 rfl rfl)
theorem dX0_append_8 : decode cX0_append 8 = .ok (.lastore, 1) := dk_80 (dk_at dksX0_append_0 8 rfl rfl)
theorem dX0_append_9 : decode cX0_append 9 = .ok (.goto 9, 3) := dk_167 0 9 (dk_at dksX0_append_0 9 rfl rfl)
theorem dX0_append_12 : decode cX0_append 12 = .ok (.astore_n 3, 1) := dk_78 (dk_at dksX0_append_0 12 rfl rfl)
theorem dX0_append_13 : decode cX0_append 13 = .ok (.iconst 1, 1) := dk_4 (dk_at dksX0_append_0 13 rfl rfl)
theorem dX0_append_14 : decode cX0_append 14 = .ok (.ireturn, 1) := dk_172 (dk_at dksX0_append_0 14 rfl rfl)
theorem dX0_append_15 : decode cX0_append 15 = .ok (.astore_n 3, 1) := dk_78 (dk_at dksX0_append_0 15 rfl rfl)
theorem dX0_append_16 : decode cX0_append 16 = .ok (.iconst 2, 1) := dk_5 (dk_at dksX0_append_0 16 rfl rfl)
theorem dX0_append_17 : decode cX0_append 17 = .ok (.ireturn, 1) := dk_172 (dk_at dksX0_append_0 17 rfl rfl)
theorem dX0_append_18 : decode cX0_append 18 = .ok (.iconst 0, 1) := dk_3 (dk_at dksX0_append_0 18 rfl rfl)
theorem dX0_append_19 : decode cX0_append 19 = .ok (.ireturn, 1) := dk_172 (dk_at dksX0_append_0 19 rfl rfl)
abbrev cX0_read : ByteArray := method_35_code
def yX0_read : MethodName := ⟨RX0, "read", "(LJumpHall;[J)I"⟩
def dkwX0_read_0 : List UInt8 := [43, 3, 42, 182, 0, 127, 133, 80, 167, 0, 9, 77, 4, 172, 77, 5, 172, 3, 172]
abbrev dktX0_read_0 : List UInt8 := dkwX0_read_0 ++ []
theorem dksX0_read_0 : cX0_read.data.toList.drop 0 = dktX0_read_0 := by decide +kernel
theorem dX0_read_0 : decode cX0_read 0 = .ok (.aload_n 1, 1) := dk_43 (dk_at dksX0_read_0 0 rfl rfl)
theorem dX0_read_1 : decode cX0_read 1 = .ok (.iconst 0, 1) := dk_3 (dk_at dksX0_read_0 1 rfl rfl)
theorem dX0_read_2 : decode cX0_read 2 = .ok (.aload_n 0, 1) := dk_42 (dk_at dksX0_read_0 2 rfl rfl)
theorem dX0_read_3 : decode cX0_read 3 = .ok (.invokevirtual 127, 3) := dk_182 0 127 (dk_at dksX0_read_0 3 rfl rfl)
theorem dX0_read_6 : decode cX0_read 6 = .ok (.i2l, 1) := dk_133 (dk_at dksX0_read_0 6 rfl rfl)
theorem dX0_read_7 : decode cX0_read 7 = .ok (.lastore, 1) := dk_80 (dk_at dksX0_read_0 7 rfl rfl)
theorem dX0_read_8 : decode cX0_read 8 = .ok (.goto 9, 3) := dk_167 0 9 (dk_at dksX0_read_0 8 rfl rfl)
theorem dX0_read_11 : decode cX0_read 11 = .ok (.astore_n 2, 1) := dk_77 (dk_at dksX0_read_0 11 rfl rfl)
theorem dX0_read_12 : decode cX0_read 12 = .ok (.iconst 1, 1) := dk_4 (dk_at dksX0_read_0 12 rfl rfl)
theorem dX0_read_13 : decode cX0_read 13 = .ok (.ireturn, 1) := dk_172 (dk_at dksX0_read_0 13 rfl rfl)
theorem dX0_read_14 : decode cX0_read 14 = .ok (.astore_n 2, 1) := dk_77 (dk_at dksX0_read_0 14 rfl rfl)
theorem dX0_read_15 : decode cX0_read 15 = .ok (.iconst 2, 1) := dk_5 (dk_at dksX0_read_0 15 rfl rfl)
theorem dX0_read_16 : decode cX0_read 16 = .ok (.ireturn, 1) := dk_172 (dk_at dksX0_read_0 16 rfl rfl)
theorem dX0_read_17 : decode cX0_read 17 = .ok (.iconst 0, 1) := dk_3 (dk_at dksX0_read_0 17 rfl rfl)
theorem dX0_read_18 : decode cX0_read 18 = .ok (.ireturn, 1) := dk_172 (dk_at dksX0_read_0 18 rfl rfl)
abbrev cX0_errorPosition : ByteArray := method_36_code
def yX0_errorPosition : MethodName := ⟨RX0, "errorPosition", "(LJumpHall;[J)I"⟩
def dkwX0_errorPosition_0 : List UInt8 := [43, 3, 42, 182, 0, 130, 133, 80, 167, 0, 6, 77, 4, 172, 3, 172]
abbrev dktX0_errorPosition_0 : List UInt8 := dkwX0_errorPosition_0 ++ []
theorem dksX0_errorPosition_0 : cX0_errorPosition.data.toList.drop 0 = dktX0_errorPosition_0 := by decide +kernel
theorem dX0_errorPosition_0 : decode cX0_errorPosition 0 = .ok (.aload_n 1, 1) := dk_43 (dk_at dksX0_errorPosition_0 0 rfl rfl)
theorem dX0_errorPosition_1 : decode cX0_errorPosition 1 = .ok (.iconst 0, 1) := dk_3 (dk_at dksX0_errorPosition_0 1 rfl rfl)
theorem dX0_errorPosition_2 : decode cX0_errorPosition 2 = .ok (.aload_n 0, 1) := dk_42 (dk_at dksX0_errorPosition_0 2 rfl rfl)
theorem dX0_errorPosition_3 : decode cX0_errorPosition 3 = .ok (.invokevirtual 130, 3) := dk_182 0 130 (dk_at dksX0_errorPosition_0 3 rfl rfl)
theorem dX0_errorPosition_6 : decode cX0_errorPosition 6 = .ok (.i2l, 1) := dk_133 (dk_at dksX0_errorPosition_0 6 rfl rfl)
theorem dX0_errorPosition_7 : decode cX0_errorPosition 7 = .ok (.lastore, 1) := dk_80 (dk_at dksX0_errorPosition_0 7 rfl rfl)
theorem dX0_errorPosition_8 : decode cX0_errorPosition 8 = .ok (.goto 6, 3) := dk_167 0 6 (dk_at dksX0_errorPosition_0 8 rfl rfl)
theorem dX0_errorPosition_11 : decode cX0_errorPosition 11 = .ok (.astore_n 2, 1) := dk_77 (dk_at dksX0_errorPosition_0 11 rfl rfl)
theorem dX0_errorPosition_12 : decode cX0_errorPosition 12 = .ok (.iconst 1, 1) := dk_4 (dk_at dksX0_errorPosition_0 12 rfl rfl)
theorem dX0_errorPosition_13 : decode cX0_errorPosition 13 = .ok (.ireturn, 1) := dk_172 (dk_at dksX0_errorPosition_0 13 rfl rfl)
theorem dX0_errorPosition_14 : decode cX0_errorPosition 14 = .ok (.iconst 0, 1) := dk_3 (dk_at dksX0_errorPosition_0 14 rfl rfl)
theorem dX0_errorPosition_15 : decode cX0_errorPosition 15 = .ok (.ireturn, 1) := dk_172 (dk_at dksX0_errorPosition_0 15 rfl rfl)
abbrev cX0_reason : ByteArray := method_37_code
def yX0_reason : MethodName := ⟨RX0, "reason", "(LJumpHall;IZ[J)I"⟩
def dkwX0_reason_0 : List UInt8 := [45, 3, 42, 27, 28, 182, 0, 133, 133, 80, 167, 0, 7, 58, 4, 4, 172, 3, 172]
abbrev dktX0_reason_0 : List UInt8 := dkwX0_reason_0 ++ []
theorem dksX0_reason_0 : cX0_reason.data.toList.drop 0 = dktX0_reason_0 := by decide +kernel
theorem dX0_reason_0 : decode cX0_reason 0 = .ok (.aload_n 3, 1) := dk_45 (dk_at dksX0_reason_0 0 rfl rfl)
theorem dX0_reason_1 : decode cX0_reason 1 = .ok (.iconst 0, 1) := dk_3 (dk_at dksX0_reason_0 1 rfl rfl)
theorem dX0_reason_2 : decode cX0_reason 2 = .ok (.aload_n 0, 1) := dk_42 (dk_at dksX0_reason_0 2 rfl rfl)
theorem dX0_reason_3 : decode cX0_reason 3 = .ok (.iload_n 1, 1) := dk_27 (dk_at dksX0_reason_0 3 rfl rfl)
theorem dX0_reason_4 : decode cX0_reason 4 = .ok (.iload_n 2, 1) := dk_28 (dk_at dksX0_reason_0 4 rfl rfl)
theorem dX0_reason_5 : decode cX0_reason 5 = .ok (.invokevirtual 133, 3) := dk_182 0 133 (dk_at dksX0_reason_0 5 rfl rfl)
theorem dX0_reason_8 : decode cX0_reason 8 = .ok (.i2l, 1) := dk_133 (dk_at dksX0_reason_0 8 rfl rfl)
theorem dX0_reason_9 : decode cX0_reason 9 = .ok (.lastore, 1) := dk_80 (dk_at dksX0_reason_0 9 rfl rfl)
theorem dX0_reason_10 : decode cX0_reason 10 = .ok (.goto 7, 3) := dk_167 0 7 (dk_at dksX0_reason_0 10 rfl rfl)
theorem dX0_reason_13 : decode cX0_reason 13 = .ok (.astore 4, 2) := dk_58 4 (dk_at dksX0_reason_0 13 rfl rfl)
theorem dX0_reason_15 : decode cX0_reason 15 = .ok (.iconst 1, 1) := dk_4 (dk_at dksX0_reason_0 15 rfl rfl)
theorem dX0_reason_16 : decode cX0_reason 16 = .ok (.ireturn, 1) := dk_172 (dk_at dksX0_reason_0 16 rfl rfl)
theorem dX0_reason_17 : decode cX0_reason 17 = .ok (.iconst 0, 1) := dk_3 (dk_at dksX0_reason_0 17 rfl rfl)
theorem dX0_reason_18 : decode cX0_reason 18 = .ok (.ireturn, 1) := dk_172 (dk_at dksX0_reason_0 18 rfl rfl)
abbrev cX0_undo : ByteArray := method_38_code
def yX0_undo : MethodName := ⟨RX0, "undo", "(LJumpHall;[J)I"⟩
def dkwX0_undo_0 : List UInt8 := [43, 3, 42, 182, 0, 137, 133, 80, 167, 0, 6, 77, 4, 172, 3, 172]
abbrev dktX0_undo_0 : List UInt8 := dkwX0_undo_0 ++ []
theorem dksX0_undo_0 : cX0_undo.data.toList.drop 0 = dktX0_undo_0 := by decide +kernel
theorem dX0_undo_0 : decode cX0_undo 0 = .ok (.aload_n 1, 1) := dk_43 (dk_at dksX0_undo_0 0 rfl rfl)
theorem dX0_undo_1 : decode cX0_undo 1 = .ok (.iconst 0, 1) := dk_3 (dk_at dksX0_undo_0 1 rfl rfl)
theorem dX0_undo_2 : decode cX0_undo 2 = .ok (.aload_n 0, 1) := dk_42 (dk_at dksX0_undo_0 2 rfl rfl)
theorem dX0_undo_3 : decode cX0_undo 3 = .ok (.invokevirtual 137, 3) := dk_182 0 137 (dk_at dksX0_undo_0 3 rfl rfl)
theorem dX0_undo_6 : decode cX0_undo 6 = .ok (.i2l, 1) := dk_133 (dk_at dksX0_undo_0 6 rfl rfl)
theorem dX0_undo_7 : decode cX0_undo 7 = .ok (.lastore, 1) := dk_80 (dk_at dksX0_undo_0 7 rfl rfl)
theorem dX0_undo_8 : decode cX0_undo 8 = .ok (.goto 6, 3) := dk_167 0 6 (dk_at dksX0_undo_0 8 rfl rfl)
theorem dX0_undo_11 : decode cX0_undo 11 = .ok (.astore_n 2, 1) := dk_77 (dk_at dksX0_undo_0 11 rfl rfl)
theorem dX0_undo_12 : decode cX0_undo 12 = .ok (.iconst 1, 1) := dk_4 (dk_at dksX0_undo_0 12 rfl rfl)
theorem dX0_undo_13 : decode cX0_undo 13 = .ok (.ireturn, 1) := dk_172 (dk_at dksX0_undo_0 13 rfl rfl)
theorem dX0_undo_14 : decode cX0_undo 14 = .ok (.iconst 0, 1) := dk_3 (dk_at dksX0_undo_0 14 rfl rfl)
theorem dX0_undo_15 : decode cX0_undo 15 = .ok (.ireturn, 1) := dk_172 (dk_at dksX0_undo_0 15 rfl rfl)
abbrev cX0_restore : ByteArray := method_39_code
def yX0_restore : MethodName := ⟨RX0, "restore", "(LJumpHall;[J)I"⟩
def dkwX0_restore_0 : List UInt8 := [43, 3, 42, 182, 0, 140, 133, 80, 167, 0, 6, 77, 4, 172, 3, 172]
abbrev dktX0_restore_0 : List UInt8 := dkwX0_restore_0 ++ []
theorem dksX0_restore_0 : cX0_restore.data.toList.drop 0 = dktX0_restore_0 := by decide +kernel
theorem dX0_restore_0 : decode cX0_restore 0 = .ok (.aload_n 1, 1) := dk_43 (dk_at dksX0_restore_0 0 rfl rfl)
theorem dX0_restore_1 : decode cX0_restore 1 = .ok (.iconst 0, 1) := dk_3 (dk_at dksX0_restore_0 1 rfl rfl)
theorem dX0_restore_2 : decode cX0_restore 2 = .ok (.aload_n 0, 1) := dk_42 (dk_at dksX0_restore_0 2 rfl rfl)
theorem dX0_restore_3 : decode cX0_restore 3 = .ok (.invokevirtual 140, 3) := dk_182 0 140 (dk_at dksX0_restore_0 3 rfl rfl)
theorem dX0_restore_6 : decode cX0_restore 6 = .ok (.i2l, 1) := dk_133 (dk_at dksX0_restore_0 6 rfl rfl)
theorem dX0_restore_7 : decode cX0_restore 7 = .ok (.lastore, 1) := dk_80 (dk_at dksX0_restore_0 7 rfl rfl)
theorem dX0_restore_8 : decode cX0_restore 8 = .ok (.goto 6, 3) := dk_167 0 6 (dk_at dksX0_restore_0 8 rfl rfl)
theorem dX0_restore_11 : decode cX0_restore 11 = .ok (.astore_n 2, 1) := dk_77 (dk_at dksX0_restore_0 11 rfl rfl)
theorem dX0_restore_12 : decode cX0_restore 12 = .ok (.iconst 1, 1) := dk_4 (dk_at dksX0_restore_0 12 rfl rfl)
theorem dX0_restore_13 : decode cX0_restore 13 = .ok (.ireturn, 1) := dk_172 (dk_at dksX0_restore_0 13 rfl rfl)
theorem dX0_restore_14 : decode cX0_restore 14 = .ok (.iconst 0, 1) := dk_3 (dk_at dksX0_restore_0 14 rfl rfl)
theorem dX0_restore_15 : decode cX0_restore 15 = .ok (.ireturn, 1) := dk_172 (dk_at dksX0_restore_0 15 rfl rfl)
theorem q73 : (Jvm.Cond.initialized "JumpHallLaw") ∈ lw_all := lw_g (lw_at lw_m1 0 rfl) rfl
theorem q138 : (Jvm.Cond.classLink "JumpHallLaw" (8 : Nat) "JumpHall") ∈ lw_all := lw_g (lw_at lw_m1 65 rfl) rfl
theorem q140 : (Jvm.Cond.methodLink "JumpHallLaw" (143 : Nat) ({ cls := "JumpHall", name := "<init>", desc := "()V" } : Jvm.MethodName)) ∈ lw_all := lw_g (lw_at lw_m1 67 rfl) rfl
theorem q334 : (Jvm.Cond.methodLink "JumpHallLaw" (269 : Nat) ({ cls := "JumpHall", name := "save", desc := "()I" } : Jvm.MethodName)) ∈ lw_all := lw_g (lw_at lw_m2 21 rfl) rfl
theorem q1706 : (Jvm.Cond.methodLink "JumpHallLaw" (147 : Nat) ({ cls := "JumpHallLaw", name := "mat", desc := "(LJumpHall;[J)I" } : Jvm.MethodName)) ∈ lw_all := lw_g (lw_at lw_m7 193 rfl) rfl
theorem q1707 : (Jvm.Cond.static ({ cls := "JumpHallLaw", name := "mat", desc := "(LJumpHall;[J)I" } : Jvm.MethodName)) ∈ lw_all := lw_g (lw_at lw_m7 194 rfl) rfl
theorem q1708 : (Jvm.Cond.codeWith ({ cls := "JumpHallLaw", name := "mat", desc := "(LJumpHall;[J)I" } : Jvm.MethodName) method_3_code (3 : Nat) (Option.some Jvm.ClassFile.FieldType.int) [((0 : Nat), (8 : Nat), (11 : Nat), (13 : Nat))]) ∈ lw_all := lw_g (lw_at lw_m7 195 rfl) rfl
theorem q1709 : (Jvm.Cond.classLink "JumpHallLaw" (13 : Nat) "java/lang/UnsupportedOperationException") ∈ lw_all := lw_g (lw_at lw_m7 196 rfl) rfl
theorem q1710 : (Jvm.Cond.methodLink "JumpHallLaw" (7 : Nat) ({ cls := "JumpHall", name := "mat", desc := "()I" } : Jvm.MethodName)) ∈ lw_all := lw_g (lw_at lw_m7 197 rfl) rfl
theorem q1783 : (Jvm.Cond.methodLink "JumpHallLaw" (156 : Nat) ({ cls := "JumpHallLaw", name := "fix", desc := "(LJumpHall;II[J)I" } : Jvm.MethodName)) ∈ lw_all := lw_g (lw_at lw_m8 30 rfl) rfl
theorem q1784 : (Jvm.Cond.static ({ cls := "JumpHallLaw", name := "fix", desc := "(LJumpHall;II[J)I" } : Jvm.MethodName)) ∈ lw_all := lw_g (lw_at lw_m8 31 rfl) rfl
theorem q1785 : (Jvm.Cond.codeWith ({ cls := "JumpHallLaw", name := "fix", desc := "(LJumpHall;II[J)I" } : Jvm.MethodName) method_4_code (5 : Nat) (Option.some Jvm.ClassFile.FieldType.int) [((0 : Nat), (10 : Nat), (13 : Nat), (19 : Nat)), ((0 : Nat), (10 : Nat), (17 : Nat), (13 : Nat))]) ∈ lw_all := lw_g (lw_at lw_m8 32 rfl) rfl
theorem q1786 : (Jvm.Cond.classLink "JumpHallLaw" (19 : Nat) "java/lang/IndexOutOfBoundsException") ∈ lw_all := lw_g (lw_at lw_m8 33 rfl) rfl
theorem q1802 : (Jvm.Cond.methodLink "JumpHallLaw" (15 : Nat) ({ cls := "JumpHall", name := "fix", desc := "(II)I" } : Jvm.MethodName)) ∈ lw_all := lw_g (lw_at lw_m8 49 rfl) rfl
theorem q1851 : (Jvm.Cond.methodLink "JumpHallLaw" (160 : Nat) ({ cls := "JumpHallLaw", name := "open", desc := "(LJumpHall;I[J)I" } : Jvm.MethodName)) ∈ lw_all := lw_g (lw_at lw_m8 98 rfl) rfl
theorem q1852 : (Jvm.Cond.static ({ cls := "JumpHallLaw", name := "open", desc := "(LJumpHall;I[J)I" } : Jvm.MethodName)) ∈ lw_all := lw_g (lw_at lw_m8 99 rfl) rfl
theorem q1853 : (Jvm.Cond.codeWith ({ cls := "JumpHallLaw", name := "open", desc := "(LJumpHall;I[J)I" } : Jvm.MethodName) method_5_code (4 : Nat) (Option.some Jvm.ClassFile.FieldType.int) [((0 : Nat), (9 : Nat), (12 : Nat), (19 : Nat)), ((0 : Nat), (9 : Nat), (15 : Nat), (13 : Nat))]) ∈ lw_all := lw_g (lw_at lw_m8 100 rfl) rfl
theorem q1854 : (Jvm.Cond.methodLink "JumpHallLaw" (21 : Nat) ({ cls := "JumpHall", name := "open", desc := "(I)I" } : Jvm.MethodName)) ∈ lw_all := lw_g (lw_at lw_m8 101 rfl) rfl
theorem q1870 : (Jvm.Cond.methodLink "JumpHallLaw" (164 : Nat) ({ cls := "JumpHallLaw", name := "matOf", desc := "(LJumpHall;II[J)I" } : Jvm.MethodName)) ∈ lw_all := lw_g (lw_at lw_m8 117 rfl) rfl
theorem q1871 : (Jvm.Cond.static ({ cls := "JumpHallLaw", name := "matOf", desc := "(LJumpHall;II[J)I" } : Jvm.MethodName)) ∈ lw_all := lw_g (lw_at lw_m8 118 rfl) rfl
theorem q1872 : (Jvm.Cond.codeWith ({ cls := "JumpHallLaw", name := "matOf", desc := "(LJumpHall;II[J)I" } : Jvm.MethodName) method_6_code (5 : Nat) (Option.some Jvm.ClassFile.FieldType.int) [((0 : Nat), (10 : Nat), (13 : Nat), (19 : Nat)), ((0 : Nat), (10 : Nat), (17 : Nat), (28 : Nat))]) ∈ lw_all := lw_g (lw_at lw_m8 119 rfl) rfl
theorem q1873 : (Jvm.Cond.classLink "JumpHallLaw" (28 : Nat) "java/lang/IllegalArgumentException") ∈ lw_all := lw_g (lw_at lw_m8 120 rfl) rfl
theorem q1874 : (Jvm.Cond.methodLink "JumpHallLaw" (25 : Nat) ({ cls := "JumpHall", name := "matOf", desc := "(II)I" } : Jvm.MethodName)) ∈ lw_all := lw_g (lw_at lw_m8 121 rfl) rfl
theorem q1944 : (Jvm.Cond.methodLink "JumpHallLaw" (167 : Nat) ({ cls := "JumpHallLaw", name := "wear", desc := "(LJumpHall;II[J)I" } : Jvm.MethodName)) ∈ lw_all := lw_g (lw_at lw_m8 191 rfl) rfl
theorem q1945 : (Jvm.Cond.static ({ cls := "JumpHallLaw", name := "wear", desc := "(LJumpHall;II[J)I" } : Jvm.MethodName)) ∈ lw_all := lw_g (lw_at lw_m8 192 rfl) rfl
theorem q1946 : (Jvm.Cond.codeWith ({ cls := "JumpHallLaw", name := "wear", desc := "(LJumpHall;II[J)I" } : Jvm.MethodName) method_7_code (5 : Nat) (Option.some Jvm.ClassFile.FieldType.int) [((0 : Nat), (10 : Nat), (13 : Nat), (19 : Nat))]) ∈ lw_all := lw_g (lw_at lw_m8 193 rfl) rfl
theorem q1947 : (Jvm.Cond.methodLink "JumpHallLaw" (30 : Nat) ({ cls := "JumpHall", name := "wear", desc := "(II)I" } : Jvm.MethodName)) ∈ lw_all := lw_g (lw_at lw_m8 194 rfl) rfl
theorem q1951 : (Jvm.Cond.methodLink "JumpHallLaw" (170 : Nat) ({ cls := "JumpHallLaw", name := "bearsAgain", desc := "(LJumpHall;I[J)I" } : Jvm.MethodName)) ∈ lw_all := lw_g (lw_at lw_m8 198 rfl) rfl
theorem q1952 : (Jvm.Cond.static ({ cls := "JumpHallLaw", name := "bearsAgain", desc := "(LJumpHall;I[J)I" } : Jvm.MethodName)) ∈ lw_all := lw_g (lw_at lw_m8 199 rfl) rfl
theorem q1953 : (Jvm.Cond.codeWith ({ cls := "JumpHallLaw", name := "bearsAgain", desc := "(LJumpHall;I[J)I" } : Jvm.MethodName) method_8_code (4 : Nat) (Option.some Jvm.ClassFile.FieldType.int) [((0 : Nat), (9 : Nat), (12 : Nat), (19 : Nat))]) ∈ lw_all := lw_g (lw_at lw_m8 200 rfl) rfl
theorem q1954 : (Jvm.Cond.methodLink "JumpHallLaw" (33 : Nat) ({ cls := "JumpHall", name := "bearsAgain", desc := "(I)I" } : Jvm.MethodName)) ∈ lw_all := lw_g (lw_at lw_m8 201 rfl) rfl
theorem q1958 : (Jvm.Cond.methodLink "JumpHallLaw" (173 : Nat) ({ cls := "JumpHallLaw", name := "lasts", desc := "(LJumpHall;I[J)I" } : Jvm.MethodName)) ∈ lw_all := lw_g (lw_at lw_m8 205 rfl) rfl
theorem q1959 : (Jvm.Cond.static ({ cls := "JumpHallLaw", name := "lasts", desc := "(LJumpHall;I[J)I" } : Jvm.MethodName)) ∈ lw_all := lw_g (lw_at lw_m8 206 rfl) rfl
theorem q1960 : (Jvm.Cond.codeWith ({ cls := "JumpHallLaw", name := "lasts", desc := "(LJumpHall;I[J)I" } : Jvm.MethodName) method_9_code (4 : Nat) (Option.some Jvm.ClassFile.FieldType.int) [((0 : Nat), (9 : Nat), (12 : Nat), (19 : Nat)), ((0 : Nat), (9 : Nat), (15 : Nat), (39 : Nat))]) ∈ lw_all := lw_g (lw_at lw_m8 207 rfl) rfl
theorem q1961 : (Jvm.Cond.classLink "JumpHallLaw" (39 : Nat) "java/util/NoSuchElementException") ∈ lw_all := lw_g (lw_at lw_m8 208 rfl) rfl
theorem q1962 : (Jvm.Cond.methodLink "JumpHallLaw" (36 : Nat) ({ cls := "JumpHall", name := "lasts", desc := "(I)I" } : Jvm.MethodName)) ∈ lw_all := lw_g (lw_at lw_m8 209 rfl) rfl
theorem q1981 : (Jvm.Cond.methodLink "JumpHallLaw" (176 : Nat) ({ cls := "JumpHallLaw", name := "bestMat", desc := "(LJumpHall;[J)I" } : Jvm.MethodName)) ∈ lw_all := lw_g (lw_at lw_m8 228 rfl) rfl
theorem q1982 : (Jvm.Cond.static ({ cls := "JumpHallLaw", name := "bestMat", desc := "(LJumpHall;[J)I" } : Jvm.MethodName)) ∈ lw_all := lw_g (lw_at lw_m8 229 rfl) rfl
theorem q1983 : (Jvm.Cond.codeWith ({ cls := "JumpHallLaw", name := "bestMat", desc := "(LJumpHall;[J)I" } : Jvm.MethodName) method_10_code (3 : Nat) (Option.some Jvm.ClassFile.FieldType.int) [((0 : Nat), (8 : Nat), (11 : Nat), (39 : Nat))]) ∈ lw_all := lw_g (lw_at lw_m8 230 rfl) rfl
theorem q1984 : (Jvm.Cond.methodLink "JumpHallLaw" (41 : Nat) ({ cls := "JumpHall", name := "bestMat", desc := "()I" } : Jvm.MethodName)) ∈ lw_all := lw_g (lw_at lw_m8 231 rfl) rfl
theorem q1993 : (Jvm.Cond.methodLink "JumpHallLaw" (179 : Nat) ({ cls := "JumpHallLaw", name := "jumper", desc := "(LJumpHall;II[J)I" } : Jvm.MethodName)) ∈ lw_all := lw_g (lw_at lw_m9 0 rfl) rfl
theorem q1994 : (Jvm.Cond.static ({ cls := "JumpHallLaw", name := "jumper", desc := "(LJumpHall;II[J)I" } : Jvm.MethodName)) ∈ lw_all := lw_g (lw_at lw_m9 1 rfl) rfl
theorem q1995 : (Jvm.Cond.codeWith ({ cls := "JumpHallLaw", name := "jumper", desc := "(LJumpHall;II[J)I" } : Jvm.MethodName) method_11_code (5 : Nat) (Option.some Jvm.ClassFile.FieldType.int) [((0 : Nat), (10 : Nat), (13 : Nat), (28 : Nat)), ((0 : Nat), (10 : Nat), (17 : Nat), (13 : Nat))]) ∈ lw_all := lw_g (lw_at lw_m9 2 rfl) rfl
theorem q1996 : (Jvm.Cond.methodLink "JumpHallLaw" (44 : Nat) ({ cls := "JumpHall", name := "jumper", desc := "(II)I" } : Jvm.MethodName)) ∈ lw_all := lw_g (lw_at lw_m9 3 rfl) rfl
theorem q2007 : (Jvm.Cond.methodLink "JumpHallLaw" (182 : Nat) ({ cls := "JumpHallLaw", name := "up", desc := "(LJumpHall;II[J)I" } : Jvm.MethodName)) ∈ lw_all := lw_g (lw_at lw_m9 14 rfl) rfl
theorem q2008 : (Jvm.Cond.static ({ cls := "JumpHallLaw", name := "up", desc := "(LJumpHall;II[J)I" } : Jvm.MethodName)) ∈ lw_all := lw_g (lw_at lw_m9 15 rfl) rfl
theorem q2009 : (Jvm.Cond.codeWith ({ cls := "JumpHallLaw", name := "up", desc := "(LJumpHall;II[J)I" } : Jvm.MethodName) method_12_code (5 : Nat) (Option.some Jvm.ClassFile.FieldType.int) [((0 : Nat), (10 : Nat), (13 : Nat), (19 : Nat)), ((0 : Nat), (10 : Nat), (17 : Nat), (13 : Nat))]) ∈ lw_all := lw_g (lw_at lw_m9 16 rfl) rfl
theorem q2010 : (Jvm.Cond.methodLink "JumpHallLaw" (47 : Nat) ({ cls := "JumpHall", name := "up", desc := "(II)I" } : Jvm.MethodName)) ∈ lw_all := lw_g (lw_at lw_m9 17 rfl) rfl
theorem q2175 : (Jvm.Cond.methodLink "JumpHallLaw" (185 : Nat) ({ cls := "JumpHallLaw", name := "down", desc := "(LJumpHall;I[J)I" } : Jvm.MethodName)) ∈ lw_all := lw_g (lw_at lw_m9 182 rfl) rfl
theorem q2176 : (Jvm.Cond.static ({ cls := "JumpHallLaw", name := "down", desc := "(LJumpHall;I[J)I" } : Jvm.MethodName)) ∈ lw_all := lw_g (lw_at lw_m9 183 rfl) rfl
theorem q2177 : (Jvm.Cond.codeWith ({ cls := "JumpHallLaw", name := "down", desc := "(LJumpHall;I[J)I" } : Jvm.MethodName) method_13_code (4 : Nat) (Option.some Jvm.ClassFile.FieldType.int) [((0 : Nat), (9 : Nat), (12 : Nat), (19 : Nat)), ((0 : Nat), (9 : Nat), (15 : Nat), (13 : Nat))]) ∈ lw_all := lw_g (lw_at lw_m9 184 rfl) rfl
theorem q2178 : (Jvm.Cond.methodLink "JumpHallLaw" (50 : Nat) ({ cls := "JumpHall", name := "down", desc := "(I)I" } : Jvm.MethodName)) ∈ lw_all := lw_g (lw_at lw_m9 185 rfl) rfl
theorem q2197 : (Jvm.Cond.methodLink "JumpHallLaw" (188 : Nat) ({ cls := "JumpHallLaw", name := "leave", desc := "(LJumpHall;I[J)I" } : Jvm.MethodName)) ∈ lw_all := lw_g (lw_at lw_m9 204 rfl) rfl
theorem q2198 : (Jvm.Cond.static ({ cls := "JumpHallLaw", name := "leave", desc := "(LJumpHall;I[J)I" } : Jvm.MethodName)) ∈ lw_all := lw_g (lw_at lw_m9 205 rfl) rfl
theorem q2199 : (Jvm.Cond.codeWith ({ cls := "JumpHallLaw", name := "leave", desc := "(LJumpHall;I[J)I" } : Jvm.MethodName) method_14_code (4 : Nat) (Option.some Jvm.ClassFile.FieldType.int) [((0 : Nat), (9 : Nat), (12 : Nat), (19 : Nat)), ((0 : Nat), (9 : Nat), (15 : Nat), (13 : Nat))]) ∈ lw_all := lw_g (lw_at lw_m9 206 rfl) rfl
theorem q2200 : (Jvm.Cond.methodLink "JumpHallLaw" (53 : Nat) ({ cls := "JumpHall", name := "leave", desc := "(I)I" } : Jvm.MethodName)) ∈ lw_all := lw_g (lw_at lw_m9 207 rfl) rfl
theorem q2216 : (Jvm.Cond.methodLink "JumpHallLaw" (191 : Nat) ({ cls := "JumpHallLaw", name := "stock", desc := "(LJumpHall;III[J)I" } : Jvm.MethodName)) ∈ lw_all := lw_g (lw_at lw_m9 223 rfl) rfl
theorem q2217 : (Jvm.Cond.static ({ cls := "JumpHallLaw", name := "stock", desc := "(LJumpHall;III[J)I" } : Jvm.MethodName)) ∈ lw_all := lw_g (lw_at lw_m9 224 rfl) rfl
theorem q2218 : (Jvm.Cond.codeWith ({ cls := "JumpHallLaw", name := "stock", desc := "(LJumpHall;III[J)I" } : Jvm.MethodName) method_15_code (6 : Nat) (Option.some Jvm.ClassFile.FieldType.int) [((0 : Nat), (12 : Nat), (15 : Nat), (28 : Nat))]) ∈ lw_all := lw_g (lw_at lw_m9 225 rfl) rfl
theorem q2219 : (Jvm.Cond.methodLink "JumpHallLaw" (56 : Nat) ({ cls := "JumpHall", name := "stock", desc := "(III)I" } : Jvm.MethodName)) ∈ lw_all := lw_g (lw_at lw_m9 226 rfl) rfl
theorem q2274 : (Jvm.Cond.methodLink "JumpHallLaw" (195 : Nat) ({ cls := "JumpHallLaw", name := "sell", desc := "(LJumpHall;II[J)I" } : Jvm.MethodName)) ∈ lw_all := lw_g (lw_at lw_m10 41 rfl) rfl
theorem q2275 : (Jvm.Cond.static ({ cls := "JumpHallLaw", name := "sell", desc := "(LJumpHall;II[J)I" } : Jvm.MethodName)) ∈ lw_all := lw_g (lw_at lw_m10 42 rfl) rfl
theorem q2276 : (Jvm.Cond.codeWith ({ cls := "JumpHallLaw", name := "sell", desc := "(LJumpHall;II[J)I" } : Jvm.MethodName) method_16_code (5 : Nat) (Option.some Jvm.ClassFile.FieldType.int) [((0 : Nat), (10 : Nat), (13 : Nat), (19 : Nat)), ((0 : Nat), (10 : Nat), (17 : Nat), (28 : Nat)), ((0 : Nat), (10 : Nat), (21 : Nat), (13 : Nat))]) ∈ lw_all := lw_g (lw_at lw_m10 43 rfl) rfl
theorem q2277 : (Jvm.Cond.methodLink "JumpHallLaw" (60 : Nat) ({ cls := "JumpHall", name := "sell", desc := "(II)I" } : Jvm.MethodName)) ∈ lw_all := lw_g (lw_at lw_m10 44 rfl) rfl
theorem q2308 : (Jvm.Cond.methodLink "JumpHallLaw" (198 : Nat) ({ cls := "JumpHallLaw", name := "jumperOf", desc := "(LJumpHall;II[J)I" } : Jvm.MethodName)) ∈ lw_all := lw_g (lw_at lw_m10 75 rfl) rfl
theorem q2309 : (Jvm.Cond.static ({ cls := "JumpHallLaw", name := "jumperOf", desc := "(LJumpHall;II[J)I" } : Jvm.MethodName)) ∈ lw_all := lw_g (lw_at lw_m10 76 rfl) rfl
theorem q2310 : (Jvm.Cond.codeWith ({ cls := "JumpHallLaw", name := "jumperOf", desc := "(LJumpHall;II[J)I" } : Jvm.MethodName) method_17_code (5 : Nat) (Option.some Jvm.ClassFile.FieldType.int) [((0 : Nat), (10 : Nat), (13 : Nat), (19 : Nat)), ((0 : Nat), (10 : Nat), (17 : Nat), (28 : Nat))]) ∈ lw_all := lw_g (lw_at lw_m10 77 rfl) rfl
theorem q2311 : (Jvm.Cond.methodLink "JumpHallLaw" (63 : Nat) ({ cls := "JumpHall", name := "jumperOf", desc := "(II)I" } : Jvm.MethodName)) ∈ lw_all := lw_g (lw_at lw_m10 78 rfl) rfl
theorem q2315 : (Jvm.Cond.methodLink "JumpHallLaw" (201 : Nat) ({ cls := "JumpHallLaw", name := "socks", desc := "(LJumpHall;IIZ[J)I" } : Jvm.MethodName)) ∈ lw_all := lw_g (lw_at lw_m10 82 rfl) rfl
theorem q2316 : (Jvm.Cond.static ({ cls := "JumpHallLaw", name := "socks", desc := "(LJumpHall;IIZ[J)I" } : Jvm.MethodName)) ∈ lw_all := lw_g (lw_at lw_m10 83 rfl) rfl
theorem q2317 : (Jvm.Cond.codeWith ({ cls := "JumpHallLaw", name := "socks", desc := "(LJumpHall;IIZ[J)I" } : Jvm.MethodName) method_18_code (6 : Nat) (Option.some Jvm.ClassFile.FieldType.int) [((0 : Nat), (12 : Nat), (15 : Nat), (28 : Nat))]) ∈ lw_all := lw_g (lw_at lw_m10 84 rfl) rfl
theorem q2318 : (Jvm.Cond.methodLink "JumpHallLaw" (66 : Nat) ({ cls := "JumpHall", name := "socks", desc := "(IIZ)I" } : Jvm.MethodName)) ∈ lw_all := lw_g (lw_at lw_m10 85 rfl) rfl
theorem q2323 : (Jvm.Cond.methodLink "JumpHallLaw" (205 : Nat) ({ cls := "JumpHallLaw", name := "bestSize", desc := "(LJumpHall;[J)I" } : Jvm.MethodName)) ∈ lw_all := lw_g (lw_at lw_m10 90 rfl) rfl
theorem q2324 : (Jvm.Cond.static ({ cls := "JumpHallLaw", name := "bestSize", desc := "(LJumpHall;[J)I" } : Jvm.MethodName)) ∈ lw_all := lw_g (lw_at lw_m10 91 rfl) rfl
theorem q2325 : (Jvm.Cond.codeWith ({ cls := "JumpHallLaw", name := "bestSize", desc := "(LJumpHall;[J)I" } : Jvm.MethodName) method_19_code (3 : Nat) (Option.some Jvm.ClassFile.FieldType.int) [((0 : Nat), (8 : Nat), (11 : Nat), (39 : Nat))]) ∈ lw_all := lw_g (lw_at lw_m10 92 rfl) rfl
theorem q2326 : (Jvm.Cond.methodLink "JumpHallLaw" (70 : Nat) ({ cls := "JumpHall", name := "bestSize", desc := "()I" } : Jvm.MethodName)) ∈ lw_all := lw_g (lw_at lw_m10 93 rfl) rfl
theorem q2335 : (Jvm.Cond.methodLink "JumpHallLaw" (208 : Nat) ({ cls := "JumpHallLaw", name := "matFor", desc := "(LJumpHall;I[J)I" } : Jvm.MethodName)) ∈ lw_all := lw_g (lw_at lw_m10 102 rfl) rfl
theorem q2336 : (Jvm.Cond.static ({ cls := "JumpHallLaw", name := "matFor", desc := "(LJumpHall;I[J)I" } : Jvm.MethodName)) ∈ lw_all := lw_g (lw_at lw_m10 103 rfl) rfl
theorem q2337 : (Jvm.Cond.codeWith ({ cls := "JumpHallLaw", name := "matFor", desc := "(LJumpHall;I[J)I" } : Jvm.MethodName) method_20_code (4 : Nat) (Option.some Jvm.ClassFile.FieldType.int) [((0 : Nat), (9 : Nat), (12 : Nat), (19 : Nat)), ((0 : Nat), (9 : Nat), (15 : Nat), (39 : Nat))]) ∈ lw_all := lw_g (lw_at lw_m10 104 rfl) rfl
theorem q2338 : (Jvm.Cond.methodLink "JumpHallLaw" (73 : Nat) ({ cls := "JumpHall", name := "matFor", desc := "(I)I" } : Jvm.MethodName)) ∈ lw_all := lw_g (lw_at lw_m10 105 rfl) rfl
theorem q2346 : (Jvm.Cond.methodLink "JumpHallLaw" (211 : Nat) ({ cls := "JumpHallLaw", name := "guard", desc := "(LJumpHall;[J)I" } : Jvm.MethodName)) ∈ lw_all := lw_g (lw_at lw_m10 113 rfl) rfl
theorem q2347 : (Jvm.Cond.static ({ cls := "JumpHallLaw", name := "guard", desc := "(LJumpHall;[J)I" } : Jvm.MethodName)) ∈ lw_all := lw_g (lw_at lw_m10 114 rfl) rfl
theorem q2348 : (Jvm.Cond.codeWith ({ cls := "JumpHallLaw", name := "guard", desc := "(LJumpHall;[J)I" } : Jvm.MethodName) method_21_code (3 : Nat) (Option.some Jvm.ClassFile.FieldType.int) [((0 : Nat), (8 : Nat), (11 : Nat), (13 : Nat))]) ∈ lw_all := lw_g (lw_at lw_m10 115 rfl) rfl
theorem q2349 : (Jvm.Cond.methodLink "JumpHallLaw" (76 : Nat) ({ cls := "JumpHall", name := "guard", desc := "()I" } : Jvm.MethodName)) ∈ lw_all := lw_g (lw_at lw_m10 116 rfl) rfl
theorem q2359 : (Jvm.Cond.methodLink "JumpHallLaw" (214 : Nat) ({ cls := "JumpHallLaw", name := "place", desc := "(LJumpHall;II[J)I" } : Jvm.MethodName)) ∈ lw_all := lw_g (lw_at lw_m10 126 rfl) rfl
theorem q2360 : (Jvm.Cond.static ({ cls := "JumpHallLaw", name := "place", desc := "(LJumpHall;II[J)I" } : Jvm.MethodName)) ∈ lw_all := lw_g (lw_at lw_m10 127 rfl) rfl
theorem q2361 : (Jvm.Cond.codeWith ({ cls := "JumpHallLaw", name := "place", desc := "(LJumpHall;II[J)I" } : Jvm.MethodName) method_22_code (5 : Nat) (Option.some Jvm.ClassFile.FieldType.int) [((0 : Nat), (10 : Nat), (13 : Nat), (19 : Nat))]) ∈ lw_all := lw_g (lw_at lw_m10 128 rfl) rfl
theorem q2362 : (Jvm.Cond.methodLink "JumpHallLaw" (79 : Nat) ({ cls := "JumpHall", name := "place", desc := "(II)I" } : Jvm.MethodName)) ∈ lw_all := lw_g (lw_at lw_m10 129 rfl) rfl
theorem q2381 : (Jvm.Cond.methodLink "JumpHallLaw" (217 : Nat) ({ cls := "JumpHallLaw", name := "at", desc := "(LJumpHall;I[J)I" } : Jvm.MethodName)) ∈ lw_all := lw_g (lw_at lw_m10 148 rfl) rfl
theorem q2382 : (Jvm.Cond.static ({ cls := "JumpHallLaw", name := "at", desc := "(LJumpHall;I[J)I" } : Jvm.MethodName)) ∈ lw_all := lw_g (lw_at lw_m10 149 rfl) rfl
theorem q2383 : (Jvm.Cond.codeWith ({ cls := "JumpHallLaw", name := "at", desc := "(LJumpHall;I[J)I" } : Jvm.MethodName) method_23_code (4 : Nat) (Option.some Jvm.ClassFile.FieldType.int) [((0 : Nat), (9 : Nat), (12 : Nat), (19 : Nat)), ((0 : Nat), (9 : Nat), (15 : Nat), (39 : Nat))]) ∈ lw_all := lw_g (lw_at lw_m10 150 rfl) rfl
theorem q2384 : (Jvm.Cond.methodLink "JumpHallLaw" (82 : Nat) ({ cls := "JumpHall", name := "at", desc := "(I)I" } : Jvm.MethodName)) ∈ lw_all := lw_g (lw_at lw_m10 151 rfl) rfl
theorem q2390 : (Jvm.Cond.methodLink "JumpHallLaw" (220 : Nat) ({ cls := "JumpHallLaw", name := "book", desc := "(LJumpHall;IIII[J)I" } : Jvm.MethodName)) ∈ lw_all := lw_g (lw_at lw_m10 157 rfl) rfl
theorem q2391 : (Jvm.Cond.static ({ cls := "JumpHallLaw", name := "book", desc := "(LJumpHall;IIII[J)I" } : Jvm.MethodName)) ∈ lw_all := lw_g (lw_at lw_m10 158 rfl) rfl
theorem q2392 : (Jvm.Cond.codeWith ({ cls := "JumpHallLaw", name := "book", desc := "(LJumpHall;IIII[J)I" } : Jvm.MethodName) method_24_code (7 : Nat) (Option.some Jvm.ClassFile.FieldType.int) [((0 : Nat), (14 : Nat), (17 : Nat), (28 : Nat)), ((0 : Nat), (14 : Nat), (21 : Nat), (13 : Nat))]) ∈ lw_all := lw_g (lw_at lw_m10 159 rfl) rfl
theorem q2393 : (Jvm.Cond.methodLink "JumpHallLaw" (85 : Nat) ({ cls := "JumpHall", name := "book", desc := "(IIII)I" } : Jvm.MethodName)) ∈ lw_all := lw_g (lw_at lw_m10 160 rfl) rfl
theorem q2408 : (Jvm.Cond.methodLink "JumpHallLaw" (224 : Nat) ({ cls := "JumpHallLaw", name := "cancel", desc := "(LJumpHall;I[J)I" } : Jvm.MethodName)) ∈ lw_all := lw_g (lw_at lw_m10 175 rfl) rfl
theorem q2409 : (Jvm.Cond.static ({ cls := "JumpHallLaw", name := "cancel", desc := "(LJumpHall;I[J)I" } : Jvm.MethodName)) ∈ lw_all := lw_g (lw_at lw_m10 176 rfl) rfl
theorem q2410 : (Jvm.Cond.codeWith ({ cls := "JumpHallLaw", name := "cancel", desc := "(LJumpHall;I[J)I" } : Jvm.MethodName) method_25_code (4 : Nat) (Option.some Jvm.ClassFile.FieldType.int) [((0 : Nat), (9 : Nat), (12 : Nat), (19 : Nat)), ((0 : Nat), (9 : Nat), (15 : Nat), (13 : Nat))]) ∈ lw_all := lw_g (lw_at lw_m10 177 rfl) rfl
theorem q2411 : (Jvm.Cond.methodLink "JumpHallLaw" (89 : Nat) ({ cls := "JumpHall", name := "cancel", desc := "(I)I" } : Jvm.MethodName)) ∈ lw_all := lw_g (lw_at lw_m10 178 rfl) rfl
theorem q2430 : (Jvm.Cond.methodLink "JumpHallLaw" (227 : Nat) ({ cls := "JumpHallLaw", name := "partyOf", desc := "(LJumpHall;II[J)I" } : Jvm.MethodName)) ∈ lw_all := lw_g (lw_at lw_m10 197 rfl) rfl
theorem q2431 : (Jvm.Cond.static ({ cls := "JumpHallLaw", name := "partyOf", desc := "(LJumpHall;II[J)I" } : Jvm.MethodName)) ∈ lw_all := lw_g (lw_at lw_m10 198 rfl) rfl
theorem q2432 : (Jvm.Cond.codeWith ({ cls := "JumpHallLaw", name := "partyOf", desc := "(LJumpHall;II[J)I" } : Jvm.MethodName) method_26_code (5 : Nat) (Option.some Jvm.ClassFile.FieldType.int) [((0 : Nat), (10 : Nat), (13 : Nat), (19 : Nat)), ((0 : Nat), (10 : Nat), (17 : Nat), (28 : Nat))]) ∈ lw_all := lw_g (lw_at lw_m10 199 rfl) rfl
theorem q2433 : (Jvm.Cond.methodLink "JumpHallLaw" (92 : Nat) ({ cls := "JumpHall", name := "partyOf", desc := "(II)I" } : Jvm.MethodName)) ∈ lw_all := lw_g (lw_at lw_m10 200 rfl) rfl
theorem q2437 : (Jvm.Cond.methodLink "JumpHallLaw" (230 : Nat) ({ cls := "JumpHallLaw", name := "nextParty", desc := "(LJumpHall;[J)I" } : Jvm.MethodName)) ∈ lw_all := lw_g (lw_at lw_m10 204 rfl) rfl
theorem q2438 : (Jvm.Cond.static ({ cls := "JumpHallLaw", name := "nextParty", desc := "(LJumpHall;[J)I" } : Jvm.MethodName)) ∈ lw_all := lw_g (lw_at lw_m10 205 rfl) rfl
theorem q2439 : (Jvm.Cond.codeWith ({ cls := "JumpHallLaw", name := "nextParty", desc := "(LJumpHall;[J)I" } : Jvm.MethodName) method_27_code (3 : Nat) (Option.some Jvm.ClassFile.FieldType.int) [((0 : Nat), (8 : Nat), (11 : Nat), (39 : Nat))]) ∈ lw_all := lw_g (lw_at lw_m10 206 rfl) rfl
theorem q2440 : (Jvm.Cond.methodLink "JumpHallLaw" (95 : Nat) ({ cls := "JumpHall", name := "nextParty", desc := "()I" } : Jvm.MethodName)) ∈ lw_all := lw_g (lw_at lw_m10 207 rfl) rfl
theorem q2448 : (Jvm.Cond.methodLink "JumpHallLaw" (233 : Nat) ({ cls := "JumpHallLaw", name := "pass", desc := "(LJumpHall;I[J)I" } : Jvm.MethodName)) ∈ lw_all := lw_g (lw_at lw_m10 215 rfl) rfl
theorem q2449 : (Jvm.Cond.static ({ cls := "JumpHallLaw", name := "pass", desc := "(LJumpHall;I[J)I" } : Jvm.MethodName)) ∈ lw_all := lw_g (lw_at lw_m10 216 rfl) rfl
theorem q2450 : (Jvm.Cond.codeWith ({ cls := "JumpHallLaw", name := "pass", desc := "(LJumpHall;I[J)I" } : Jvm.MethodName) method_28_code (4 : Nat) (Option.some Jvm.ClassFile.FieldType.int) [((0 : Nat), (9 : Nat), (12 : Nat), (28 : Nat))]) ∈ lw_all := lw_g (lw_at lw_m10 217 rfl) rfl
theorem q2451 : (Jvm.Cond.methodLink "JumpHallLaw" (98 : Nat) ({ cls := "JumpHall", name := "pass", desc := "(I)I" } : Jvm.MethodName)) ∈ lw_all := lw_g (lw_at lw_m10 218 rfl) rfl
theorem q2478 : (Jvm.Cond.methodLink "JumpHallLaw" (236 : Nat) ({ cls := "JumpHallLaw", name := "tell", desc := "(LJumpHall;I[J)I" } : Jvm.MethodName)) ∈ lw_all := lw_g (lw_at lw_m11 5 rfl) rfl
theorem q2479 : (Jvm.Cond.static ({ cls := "JumpHallLaw", name := "tell", desc := "(LJumpHall;I[J)I" } : Jvm.MethodName)) ∈ lw_all := lw_g (lw_at lw_m11 6 rfl) rfl
theorem q2480 : (Jvm.Cond.codeWith ({ cls := "JumpHallLaw", name := "tell", desc := "(LJumpHall;I[J)I" } : Jvm.MethodName) method_29_code (4 : Nat) (Option.some Jvm.ClassFile.FieldType.int) [((0 : Nat), (9 : Nat), (12 : Nat), (19 : Nat))]) ∈ lw_all := lw_g (lw_at lw_m11 7 rfl) rfl
theorem q2481 : (Jvm.Cond.methodLink "JumpHallLaw" (101 : Nat) ({ cls := "JumpHall", name := "tell", desc := "(I)I" } : Jvm.MethodName)) ∈ lw_all := lw_g (lw_at lw_m11 8 rfl) rfl
theorem q2568 : (Jvm.Cond.methodLink "JumpHallLaw" (239 : Nat) ({ cls := "JumpHallLaw", name := "character", desc := "(LJumpHall;I[J)I" } : Jvm.MethodName)) ∈ lw_all := lw_g (lw_at lw_m11 95 rfl) rfl
theorem q2569 : (Jvm.Cond.static ({ cls := "JumpHallLaw", name := "character", desc := "(LJumpHall;I[J)I" } : Jvm.MethodName)) ∈ lw_all := lw_g (lw_at lw_m11 96 rfl) rfl
theorem q2570 : (Jvm.Cond.codeWith ({ cls := "JumpHallLaw", name := "character", desc := "(LJumpHall;I[J)I" } : Jvm.MethodName) method_30_code (4 : Nat) (Option.some Jvm.ClassFile.FieldType.int) [((0 : Nat), (9 : Nat), (12 : Nat), (39 : Nat))]) ∈ lw_all := lw_g (lw_at lw_m11 97 rfl) rfl
theorem q2571 : (Jvm.Cond.methodLink "JumpHallLaw" (104 : Nat) ({ cls := "JumpHall", name := "character", desc := "(I)C" } : Jvm.MethodName)) ∈ lw_all := lw_g (lw_at lw_m11 98 rfl) rfl
theorem q2585 : (Jvm.Cond.methodLink "JumpHallLaw" (242 : Nat) ({ cls := "JumpHallLaw", name := "meanWeight", desc := "(LJumpHall;[D)I" } : Jvm.MethodName)) ∈ lw_all := lw_g (lw_at lw_m11 112 rfl) rfl
theorem q2586 : (Jvm.Cond.static ({ cls := "JumpHallLaw", name := "meanWeight", desc := "(LJumpHall;[D)I" } : Jvm.MethodName)) ∈ lw_all := lw_g (lw_at lw_m11 113 rfl) rfl
theorem q2587 : (Jvm.Cond.codeWith ({ cls := "JumpHallLaw", name := "meanWeight", desc := "(LJumpHall;[D)I" } : Jvm.MethodName) method_31_code (3 : Nat) (Option.some Jvm.ClassFile.FieldType.int) [((0 : Nat), (8 : Nat), (11 : Nat), (112 : Nat))]) ∈ lw_all := lw_g (lw_at lw_m11 114 rfl) rfl
theorem q2588 : (Jvm.Cond.classLink "JumpHallLaw" (112 : Nat) "java/lang/ArithmeticException") ∈ lw_all := lw_g (lw_at lw_m11 115 rfl) rfl
theorem q2602 : (Jvm.Cond.methodLink "JumpHallLaw" (108 : Nat) ({ cls := "JumpHall", name := "meanWeight", desc := "()F" } : Jvm.MethodName)) ∈ lw_all := lw_g (lw_at lw_m11 129 rfl) rfl
theorem q2620 : (Jvm.Cond.methodLink "JumpHallLaw" (246 : Nat) ({ cls := "JumpHallLaw", name := "brokenShare", desc := "(LJumpHall;[D)I" } : Jvm.MethodName)) ∈ lw_all := lw_g (lw_at lw_m11 147 rfl) rfl
theorem q2621 : (Jvm.Cond.static ({ cls := "JumpHallLaw", name := "brokenShare", desc := "(LJumpHall;[D)I" } : Jvm.MethodName)) ∈ lw_all := lw_g (lw_at lw_m11 148 rfl) rfl
theorem q2622 : (Jvm.Cond.codeWith ({ cls := "JumpHallLaw", name := "brokenShare", desc := "(LJumpHall;[D)I" } : Jvm.MethodName) method_32_code (3 : Nat) (Option.some Jvm.ClassFile.FieldType.int) [((0 : Nat), (7 : Nat), (10 : Nat), (112 : Nat))]) ∈ lw_all := lw_g (lw_at lw_m11 149 rfl) rfl
theorem q2623 : (Jvm.Cond.methodLink "JumpHallLaw" (114 : Nat) ({ cls := "JumpHall", name := "brokenShare", desc := "()D" } : Jvm.MethodName)) ∈ lw_all := lw_g (lw_at lw_m11 150 rfl) rfl
theorem q2631 : (Jvm.Cond.methodLink "JumpHallLaw" (249 : Nat) ({ cls := "JumpHallLaw", name := "account", desc := "(LJumpHall;I[J)I" } : Jvm.MethodName)) ∈ lw_all := lw_g (lw_at lw_m11 158 rfl) rfl
theorem q2632 : (Jvm.Cond.static ({ cls := "JumpHallLaw", name := "account", desc := "(LJumpHall;I[J)I" } : Jvm.MethodName)) ∈ lw_all := lw_g (lw_at lw_m11 159 rfl) rfl
theorem q2633 : (Jvm.Cond.codeWith ({ cls := "JumpHallLaw", name := "account", desc := "(LJumpHall;I[J)I" } : Jvm.MethodName) method_33_code (4 : Nat) (Option.some Jvm.ClassFile.FieldType.int) [((0 : Nat), (9 : Nat), (12 : Nat), (28 : Nat))]) ∈ lw_all := lw_g (lw_at lw_m11 160 rfl) rfl
theorem q2634 : (Jvm.Cond.methodLink "JumpHallLaw" (118 : Nat) ({ cls := "JumpHall", name := "account", desc := "(I)I" } : Jvm.MethodName)) ∈ lw_all := lw_g (lw_at lw_m11 161 rfl) rfl
theorem q2649 : (Jvm.Cond.methodLink "JumpHallLaw" (252 : Nat) ({ cls := "JumpHallLaw", name := "append", desc := "(LJumpHall;C[J)I" } : Jvm.MethodName)) ∈ lw_all := lw_g (lw_at lw_m11 176 rfl) rfl
theorem q2650 : (Jvm.Cond.static ({ cls := "JumpHallLaw", name := "append", desc := "(LJumpHall;C[J)I" } : Jvm.MethodName)) ∈ lw_all := lw_g (lw_at lw_m11 177 rfl) rfl
theorem q2651 : (Jvm.Cond.codeWith ({ cls := "JumpHallLaw", name := "append", desc := "(LJumpHall;C[J)I" } : Jvm.MethodName) method_34_code (4 : Nat) (Option.some Jvm.ClassFile.FieldType.int) [((0 : Nat), (9 : Nat), (12 : Nat), (28 : Nat)), ((0 : Nat), (9 : Nat), (15 : Nat), (125 : Nat))]) ∈ lw_all := lw_g (lw_at lw_m11 178 rfl) rfl
theorem q2652 : (Jvm.Cond.classLink "JumpHallLaw" (125 : Nat) "java/lang/IllegalStateException") ∈ lw_all := lw_g (lw_at lw_m11 179 rfl) rfl
theorem q2653 : (Jvm.Cond.methodLink "JumpHallLaw" (121 : Nat) ({ cls := "JumpHall", name := "append", desc := "(C)I" } : Jvm.MethodName)) ∈ lw_all := lw_g (lw_at lw_m11 180 rfl) rfl
theorem q2665 : (Jvm.Cond.methodLink "JumpHallLaw" (256 : Nat) ({ cls := "JumpHallLaw", name := "read", desc := "(LJumpHall;[J)I" } : Jvm.MethodName)) ∈ lw_all := lw_g (lw_at lw_m11 192 rfl) rfl
theorem q2666 : (Jvm.Cond.static ({ cls := "JumpHallLaw", name := "read", desc := "(LJumpHall;[J)I" } : Jvm.MethodName)) ∈ lw_all := lw_g (lw_at lw_m11 193 rfl) rfl
theorem q2667 : (Jvm.Cond.codeWith ({ cls := "JumpHallLaw", name := "read", desc := "(LJumpHall;[J)I" } : Jvm.MethodName) method_35_code (3 : Nat) (Option.some Jvm.ClassFile.FieldType.int) [((0 : Nat), (8 : Nat), (11 : Nat), (28 : Nat)), ((0 : Nat), (8 : Nat), (14 : Nat), (13 : Nat))]) ∈ lw_all := lw_g (lw_at lw_m11 194 rfl) rfl
theorem q2668 : (Jvm.Cond.methodLink "JumpHallLaw" (127 : Nat) ({ cls := "JumpHall", name := "read", desc := "()I" } : Jvm.MethodName)) ∈ lw_all := lw_g (lw_at lw_m11 195 rfl) rfl
theorem q2965 : (Jvm.Cond.methodLink "JumpHallLaw" (259 : Nat) ({ cls := "JumpHallLaw", name := "errorPosition", desc := "(LJumpHall;[J)I" } : Jvm.MethodName)) ∈ lw_all := lw_g (lw_at lw_m13 12 rfl) rfl
theorem q2966 : (Jvm.Cond.static ({ cls := "JumpHallLaw", name := "errorPosition", desc := "(LJumpHall;[J)I" } : Jvm.MethodName)) ∈ lw_all := lw_g (lw_at lw_m13 13 rfl) rfl
theorem q2967 : (Jvm.Cond.codeWith ({ cls := "JumpHallLaw", name := "errorPosition", desc := "(LJumpHall;[J)I" } : Jvm.MethodName) method_36_code (3 : Nat) (Option.some Jvm.ClassFile.FieldType.int) [((0 : Nat), (8 : Nat), (11 : Nat), (39 : Nat))]) ∈ lw_all := lw_g (lw_at lw_m13 14 rfl) rfl
theorem q2968 : (Jvm.Cond.methodLink "JumpHallLaw" (130 : Nat) ({ cls := "JumpHall", name := "errorPosition", desc := "()I" } : Jvm.MethodName)) ∈ lw_all := lw_g (lw_at lw_m13 15 rfl) rfl
theorem q2972 : (Jvm.Cond.methodLink "JumpHallLaw" (262 : Nat) ({ cls := "JumpHallLaw", name := "reason", desc := "(LJumpHall;IZ[J)I" } : Jvm.MethodName)) ∈ lw_all := lw_g (lw_at lw_m13 19 rfl) rfl
theorem q2973 : (Jvm.Cond.static ({ cls := "JumpHallLaw", name := "reason", desc := "(LJumpHall;IZ[J)I" } : Jvm.MethodName)) ∈ lw_all := lw_g (lw_at lw_m13 20 rfl) rfl
theorem q2974 : (Jvm.Cond.codeWith ({ cls := "JumpHallLaw", name := "reason", desc := "(LJumpHall;IZ[J)I" } : Jvm.MethodName) method_37_code (5 : Nat) (Option.some Jvm.ClassFile.FieldType.int) [((0 : Nat), (10 : Nat), (13 : Nat), (39 : Nat))]) ∈ lw_all := lw_g (lw_at lw_m13 21 rfl) rfl
theorem q2975 : (Jvm.Cond.methodLink "JumpHallLaw" (133 : Nat) ({ cls := "JumpHall", name := "reason", desc := "(IZ)I" } : Jvm.MethodName)) ∈ lw_all := lw_g (lw_at lw_m13 22 rfl) rfl
theorem q3001 : (Jvm.Cond.methodLink "JumpHallLaw" (266 : Nat) ({ cls := "JumpHallLaw", name := "undo", desc := "(LJumpHall;[J)I" } : Jvm.MethodName)) ∈ lw_all := lw_g (lw_at lw_m13 48 rfl) rfl
theorem q3002 : (Jvm.Cond.static ({ cls := "JumpHallLaw", name := "undo", desc := "(LJumpHall;[J)I" } : Jvm.MethodName)) ∈ lw_all := lw_g (lw_at lw_m13 49 rfl) rfl
theorem q3003 : (Jvm.Cond.codeWith ({ cls := "JumpHallLaw", name := "undo", desc := "(LJumpHall;[J)I" } : Jvm.MethodName) method_38_code (3 : Nat) (Option.some Jvm.ClassFile.FieldType.int) [((0 : Nat), (8 : Nat), (11 : Nat), (39 : Nat))]) ∈ lw_all := lw_g (lw_at lw_m13 50 rfl) rfl
theorem q3004 : (Jvm.Cond.methodLink "JumpHallLaw" (137 : Nat) ({ cls := "JumpHall", name := "undo", desc := "()I" } : Jvm.MethodName)) ∈ lw_all := lw_g (lw_at lw_m13 51 rfl) rfl
theorem q3008 : (Jvm.Cond.methodLink "JumpHallLaw" (273 : Nat) ({ cls := "JumpHallLaw", name := "restore", desc := "(LJumpHall;[J)I" } : Jvm.MethodName)) ∈ lw_all := lw_g (lw_at lw_m13 55 rfl) rfl
theorem q3009 : (Jvm.Cond.static ({ cls := "JumpHallLaw", name := "restore", desc := "(LJumpHall;[J)I" } : Jvm.MethodName)) ∈ lw_all := lw_g (lw_at lw_m13 56 rfl) rfl
theorem q3010 : (Jvm.Cond.codeWith ({ cls := "JumpHallLaw", name := "restore", desc := "(LJumpHall;[J)I" } : Jvm.MethodName) method_39_code (3 : Nat) (Option.some Jvm.ClassFile.FieldType.int) [((0 : Nat), (8 : Nat), (11 : Nat), (125 : Nat))]) ∈ lw_all := lw_g (lw_at lw_m13 57 rfl) rfl
theorem q3011 : (Jvm.Cond.methodLink "JumpHallLaw" (140 : Nat) ({ cls := "JumpHall", name := "restore", desc := "()I" } : Jvm.MethodName)) ∈ lw_all := lw_g (lw_at lw_m13 58 rfl) rfl
theorem q3019 : (Jvm.Cond.classLink "JumpHallLaw" (144 : Nat) "JumpHallModel") ∈ lw_all := lw_g (lw_at lw_m13 66 rfl) rfl
theorem q3021 : (Jvm.Cond.methodLink "JumpHallLaw" (146 : Nat) ({ cls := "JumpHallModel", name := "<init>", desc := "()V" } : Jvm.MethodName)) ∈ lw_all := lw_g (lw_at lw_m13 68 rfl) rfl
theorem q3101 : (Jvm.Cond.methodLink "JumpHallLaw" (153 : Nat) ({ cls := "JumpHallModel", name := "thrown", desc := "()I" } : Jvm.MethodName)) ∈ lw_all := lw_g (lw_at lw_m13 148 rfl) rfl
theorem q3105 : (Jvm.Cond.methodLink "JumpHallLaw" (152 : Nat) ({ cls := "JumpHallModel", name := "mat", desc := "()I" } : Jvm.MethodName)) ∈ lw_all := lw_g (lw_at lw_m13 152 rfl) rfl
theorem q3128 : (Jvm.Cond.methodLink "JumpHallLaw" (159 : Nat) ({ cls := "JumpHallModel", name := "fix", desc := "(II)I" } : Jvm.MethodName)) ∈ lw_all := lw_g (lw_at lw_m13 175 rfl) rfl
theorem q3163 : (Jvm.Cond.methodLink "JumpHallLaw" (163 : Nat) ({ cls := "JumpHallModel", name := "open", desc := "(I)I" } : Jvm.MethodName)) ∈ lw_all := lw_g (lw_at lw_m13 210 rfl) rfl
theorem q3171 : (Jvm.Cond.methodLink "JumpHallLaw" (166 : Nat) ({ cls := "JumpHallModel", name := "matOf", desc := "(II)I" } : Jvm.MethodName)) ∈ lw_all := lw_g (lw_at lw_m13 218 rfl) rfl
theorem q3187 : (Jvm.Cond.methodLink "JumpHallLaw" (169 : Nat) ({ cls := "JumpHallModel", name := "wear", desc := "(II)I" } : Jvm.MethodName)) ∈ lw_all := lw_g (lw_at lw_m13 234 rfl) rfl
theorem q3191 : (Jvm.Cond.methodLink "JumpHallLaw" (172 : Nat) ({ cls := "JumpHallModel", name := "bearsAgain", desc := "(I)I" } : Jvm.MethodName)) ∈ lw_all := lw_g (lw_at lw_m13 238 rfl) rfl
theorem q3195 : (Jvm.Cond.methodLink "JumpHallLaw" (178 : Nat) ({ cls := "JumpHallModel", name := "bestMat", desc := "()I" } : Jvm.MethodName)) ∈ lw_all := lw_g (lw_at lw_m14 2 rfl) rfl
theorem q3199 : (Jvm.Cond.methodLink "JumpHallLaw" (181 : Nat) ({ cls := "JumpHallModel", name := "jumper", desc := "(II)I" } : Jvm.MethodName)) ∈ lw_all := lw_g (lw_at lw_m14 6 rfl) rfl
theorem q3210 : (Jvm.Cond.methodLink "JumpHallLaw" (184 : Nat) ({ cls := "JumpHallModel", name := "up", desc := "(II)I" } : Jvm.MethodName)) ∈ lw_all := lw_g (lw_at lw_m14 17 rfl) rfl
theorem q3230 : (Jvm.Cond.methodLink "JumpHallLaw" (187 : Nat) ({ cls := "JumpHallModel", name := "down", desc := "(I)I" } : Jvm.MethodName)) ∈ lw_all := lw_g (lw_at lw_m14 37 rfl) rfl
theorem q3238 : (Jvm.Cond.methodLink "JumpHallLaw" (190 : Nat) ({ cls := "JumpHallModel", name := "leave", desc := "(I)I" } : Jvm.MethodName)) ∈ lw_all := lw_g (lw_at lw_m14 45 rfl) rfl
theorem q3246 : (Jvm.Cond.methodLink "JumpHallLaw" (194 : Nat) ({ cls := "JumpHallModel", name := "stock", desc := "(III)I" } : Jvm.MethodName)) ∈ lw_all := lw_g (lw_at lw_m14 53 rfl) rfl
theorem q3255 : (Jvm.Cond.methodLink "JumpHallLaw" (197 : Nat) ({ cls := "JumpHallModel", name := "sell", desc := "(II)I" } : Jvm.MethodName)) ∈ lw_all := lw_g (lw_at lw_m14 62 rfl) rfl
theorem q3267 : (Jvm.Cond.methodLink "JumpHallLaw" (200 : Nat) ({ cls := "JumpHallModel", name := "jumperOf", desc := "(II)I" } : Jvm.MethodName)) ∈ lw_all := lw_g (lw_at lw_m14 74 rfl) rfl
theorem q3272 : (Jvm.Cond.methodLink "JumpHallLaw" (204 : Nat) ({ cls := "JumpHallModel", name := "socks", desc := "(IIZ)I" } : Jvm.MethodName)) ∈ lw_all := lw_g (lw_at lw_m14 79 rfl) rfl
theorem q3276 : (Jvm.Cond.methodLink "JumpHallLaw" (207 : Nat) ({ cls := "JumpHallModel", name := "bestSize", desc := "()I" } : Jvm.MethodName)) ∈ lw_all := lw_g (lw_at lw_m14 83 rfl) rfl
theorem q3280 : (Jvm.Cond.methodLink "JumpHallLaw" (210 : Nat) ({ cls := "JumpHallModel", name := "matFor", desc := "(I)I" } : Jvm.MethodName)) ∈ lw_all := lw_g (lw_at lw_m14 87 rfl) rfl
theorem q3284 : (Jvm.Cond.methodLink "JumpHallLaw" (213 : Nat) ({ cls := "JumpHallModel", name := "guard", desc := "()I" } : Jvm.MethodName)) ∈ lw_all := lw_g (lw_at lw_m14 91 rfl) rfl
theorem q3288 : (Jvm.Cond.methodLink "JumpHallLaw" (216 : Nat) ({ cls := "JumpHallModel", name := "place", desc := "(II)I" } : Jvm.MethodName)) ∈ lw_all := lw_g (lw_at lw_m14 95 rfl) rfl
theorem q3300 : (Jvm.Cond.methodLink "JumpHallLaw" (219 : Nat) ({ cls := "JumpHallModel", name := "at", desc := "(I)I" } : Jvm.MethodName)) ∈ lw_all := lw_g (lw_at lw_m14 107 rfl) rfl
theorem q3304 : (Jvm.Cond.methodLink "JumpHallLaw" (223 : Nat) ({ cls := "JumpHallModel", name := "book", desc := "(IIII)I" } : Jvm.MethodName)) ∈ lw_all := lw_g (lw_at lw_m14 111 rfl) rfl
theorem q3316 : (Jvm.Cond.methodLink "JumpHallLaw" (226 : Nat) ({ cls := "JumpHallModel", name := "cancel", desc := "(I)I" } : Jvm.MethodName)) ∈ lw_all := lw_g (lw_at lw_m14 123 rfl) rfl
theorem q3324 : (Jvm.Cond.methodLink "JumpHallLaw" (229 : Nat) ({ cls := "JumpHallModel", name := "partyOf", desc := "(II)I" } : Jvm.MethodName)) ∈ lw_all := lw_g (lw_at lw_m14 131 rfl) rfl
theorem q3329 : (Jvm.Cond.methodLink "JumpHallLaw" (232 : Nat) ({ cls := "JumpHallModel", name := "nextParty", desc := "()I" } : Jvm.MethodName)) ∈ lw_all := lw_g (lw_at lw_m14 136 rfl) rfl
theorem q3333 : (Jvm.Cond.methodLink "JumpHallLaw" (235 : Nat) ({ cls := "JumpHallModel", name := "pass", desc := "(I)I" } : Jvm.MethodName)) ∈ lw_all := lw_g (lw_at lw_m14 140 rfl) rfl
theorem q3358 : (Jvm.Cond.methodLink "JumpHallLaw" (175 : Nat) ({ cls := "JumpHallModel", name := "lasts", desc := "(I)I" } : Jvm.MethodName)) ∈ lw_all := lw_g (lw_at lw_m14 165 rfl) rfl
theorem q3362 : (Jvm.Cond.methodLink "JumpHallLaw" (238 : Nat) ({ cls := "JumpHallModel", name := "tell", desc := "(I)I" } : Jvm.MethodName)) ∈ lw_all := lw_g (lw_at lw_m14 169 rfl) rfl
theorem q3370 : (Jvm.Cond.methodLink "JumpHallLaw" (241 : Nat) ({ cls := "JumpHallModel", name := "character", desc := "(I)C" } : Jvm.MethodName)) ∈ lw_all := lw_g (lw_at lw_m14 177 rfl) rfl
theorem q3374 : (Jvm.Cond.methodLink "JumpHallLaw" (245 : Nat) ({ cls := "JumpHallModel", name := "meanWeight", desc := "()F" } : Jvm.MethodName)) ∈ lw_all := lw_g (lw_at lw_m14 181 rfl) rfl
theorem q3378 : (Jvm.Cond.methodLink "JumpHallLaw" (248 : Nat) ({ cls := "JumpHallModel", name := "brokenShare", desc := "()D" } : Jvm.MethodName)) ∈ lw_all := lw_g (lw_at lw_m14 185 rfl) rfl
theorem q3386 : (Jvm.Cond.methodLink "JumpHallLaw" (251 : Nat) ({ cls := "JumpHallModel", name := "account", desc := "(I)I" } : Jvm.MethodName)) ∈ lw_all := lw_g (lw_at lw_m14 193 rfl) rfl
theorem q3402 : (Jvm.Cond.methodLink "JumpHallLaw" (255 : Nat) ({ cls := "JumpHallModel", name := "append", desc := "(C)I" } : Jvm.MethodName)) ∈ lw_all := lw_g (lw_at lw_m14 209 rfl) rfl
theorem q3408 : (Jvm.Cond.methodLink "JumpHallLaw" (258 : Nat) ({ cls := "JumpHallModel", name := "read", desc := "()I" } : Jvm.MethodName)) ∈ lw_all := lw_g (lw_at lw_m14 215 rfl) rfl
theorem q3449 : (Jvm.Cond.methodLink "JumpHallLaw" (261 : Nat) ({ cls := "JumpHallModel", name := "errorPosition", desc := "()I" } : Jvm.MethodName)) ∈ lw_all := lw_g (lw_at lw_m15 16 rfl) rfl
theorem q3453 : (Jvm.Cond.methodLink "JumpHallLaw" (265 : Nat) ({ cls := "JumpHallModel", name := "reason", desc := "(IZ)I" } : Jvm.MethodName)) ∈ lw_all := lw_g (lw_at lw_m15 20 rfl) rfl
theorem q3457 : (Jvm.Cond.methodLink "JumpHallLaw" (268 : Nat) ({ cls := "JumpHallModel", name := "undo", desc := "()I" } : Jvm.MethodName)) ∈ lw_all := lw_g (lw_at lw_m15 24 rfl) rfl
theorem q3461 : (Jvm.Cond.methodLink "JumpHallLaw" (272 : Nat) ({ cls := "JumpHallModel", name := "save", desc := "()I" } : Jvm.MethodName)) ∈ lw_all := lw_g (lw_at lw_m15 28 rfl) rfl
theorem q3465 : (Jvm.Cond.methodLink "JumpHallLaw" (275 : Nat) ({ cls := "JumpHallModel", name := "restore", desc := "()I" } : Jvm.MethodName)) ∈ lw_all := lw_g (lw_at lw_m15 32 rfl) rfl
/-! JumpHall -/
def RX1 : String := "JumpHall"
abbrev cX1_init : ByteArray := prog_1_method_10_code
def yX1_init : MethodName := ⟨RX1, "<init>", "()V"⟩
def dkwX1_init_1 : List UInt8 := [181, 0, 46, 42, 16, 60, 188, 5, 181, 0, 50, 42, 187, 0, 54, 89, 183, 0, 56, 181, 0, 57, 177]
abbrev dktX1_init_1 : List UInt8 := dkwX1_init_1 ++ []
def dkwX1_init_0 : List UInt8 := [42, 183, 0, 33, 42, 187, 0, 36, 89, 183, 0, 38, 181, 0, 39, 42, 187, 0, 43, 89, 183, 0, 45]
abbrev dktX1_init_0 : List UInt8 := dkwX1_init_0 ++ dktX1_init_1
theorem dksX1_init_0 : cX1_init.data.toList.drop 0 = dktX1_init_0 := by decide +kernel
theorem dksX1_init_1 : cX1_init.data.toList.drop 23 = dktX1_init_1 := dk_seg dksX1_init_0 23 rfl rfl
theorem dX1_init_0 : decode cX1_init 0 = .ok (.aload_n 0, 1) := dk_42 (dk_at dksX1_init_0 0 rfl rfl)
theorem dX1_init_1 : decode cX1_init 1 = .ok (.invokespecial 33, 3) := dk_183 0 33 (dk_at dksX1_init_0 1 rfl rfl)
theorem dX1_init_4 : decode cX1_init 4 = .ok (.aload_n 0, 1) := dk_42 (dk_at dksX1_init_0 4 rfl rfl)
theorem dX1_init_5 : decode cX1_init 5 = .ok (.new 36, 3) := dk_187 0 36 (dk_at dksX1_init_0 5 rfl rfl)
theorem dX1_init_8 : decode cX1_init 8 = .ok (.dup, 1) := dk_89 (dk_at dksX1_init_0 8 rfl rfl)
theorem dX1_init_9 : decode cX1_init 9 = .ok (.invokespecial 38, 3) := dk_183 0 38 (dk_at dksX1_init_0 9 rfl rfl)
theorem dX1_init_12 : decode cX1_init 12 = .ok (.putfield 39, 3) := dk_181 0 39 (dk_at dksX1_init_0 12 rfl rfl)
theorem dX1_init_15 : decode cX1_init 15 = .ok (.aload_n 0, 1) := dk_42 (dk_at dksX1_init_0 15 rfl rfl)
theorem dX1_init_16 : decode cX1_init 16 = .ok (.new 43, 3) := dk_187 0 43 (dk_at dksX1_init_0 16 rfl rfl)
theorem dX1_init_19 : decode cX1_init 19 = .ok (.dup, 1) := dk_89 (dk_at dksX1_init_0 19 rfl rfl)
theorem dX1_init_20 : decode cX1_init 20 = .ok (.invokespecial 45, 3) := dk_183 0 45 (dk_at dksX1_init_0 20 rfl rfl)
theorem dX1_init_23 : decode cX1_init 23 = .ok (.putfield 46, 3) := dk_181 0 46 (dk_at dksX1_init_1 0 rfl rfl)
theorem dX1_init_26 : decode cX1_init 26 = .ok (.aload_n 0, 1) := dk_42 (dk_at dksX1_init_1 3 rfl rfl)
theorem dX1_init_27 : decode cX1_init 27 = .ok (.bipush 60, 2) := dk_16 60 (dk_at dksX1_init_1 4 rfl rfl)
theorem dX1_init_29 : decode cX1_init 29 = .ok (.newarray .char, 2) := dk_188_5 (dk_at dksX1_init_1 6 rfl rfl)
theorem dX1_init_31 : decode cX1_init 31 = .ok (.putfield 50, 3) := dk_181 0 50 (dk_at dksX1_init_1 8 rfl rfl)
theorem dX1_init_34 : decode cX1_init 34 = .ok (.aload_n 0, 1) := dk_42 (dk_at dksX1_init_1 11 rfl rfl)
theorem dX1_init_35 : decode cX1_init 35 = .ok (.new 54, 3) := dk_187 0 54 (dk_at dksX1_init_1 12 rfl rfl)
theorem dX1_init_38 : decode cX1_init 38 = .ok (.dup, 1) := dk_89 (dk_at dksX1_init_1 15 rfl rfl)
theorem dX1_init_39 : decode cX1_init 39 = .ok (.invokespecial 56, 3) := dk_183 0 56 (dk_at dksX1_init_1 16 rfl rfl)
theorem dX1_init_42 : decode cX1_init 42 = .ok (.putfield 57, 3) := dk_181 0 57 (dk_at dksX1_init_1 19 rfl rfl)
theorem dX1_init_45 : decode cX1_init 45 = .ok (.return_, 1) := dk_177 (dk_at dksX1_init_1 22 rfl rfl)
abbrev cX1_save : ByteArray := prog_1_method_51_code
def yX1_save : MethodName := ⟨RX1, "save", "()I"⟩
def dkwX1_save_0 : List UInt8 := [42, 42, 180, 0, 39, 182, 0, 61, 181, 1, 144, 42, 180, 1, 144, 180, 0, 98, 182, 0, 71, 172]
abbrev dktX1_save_0 : List UInt8 := dkwX1_save_0 ++ []
theorem dksX1_save_0 : cX1_save.data.toList.drop 0 = dktX1_save_0 := by decide +kernel
theorem dX1_save_0 : decode cX1_save 0 = .ok (.aload_n 0, 1) := dk_42 (dk_at dksX1_save_0 0 rfl rfl)
theorem dX1_save_1 : decode cX1_save 1 = .ok (.aload_n 0, 1) := dk_42 (dk_at dksX1_save_0 1 rfl rfl)
theorem dX1_save_2 : decode cX1_save 2 = .ok (.getfield 39, 3) := dk_180 0 39 (dk_at dksX1_save_0 2 rfl rfl)
theorem dX1_save_5 : decode cX1_save 5 = .ok (.invokevirtual 61, 3) := dk_182 0 61 (dk_at dksX1_save_0 5 rfl rfl)
theorem dX1_save_8 : decode cX1_save 8 = .ok (.putfield 400, 3) := dk_181 1 144 (dk_at dksX1_save_0 8 rfl rfl)
theorem dX1_save_11 : decode cX1_save 11 = .ok (.aload_n 0, 1) := dk_42 (dk_at dksX1_save_0 11 rfl rfl)
theorem dX1_save_12 : decode cX1_save 12 = .ok (.getfield 400, 3) := dk_180 1 144 (dk_at dksX1_save_0 12 rfl rfl)
theorem dX1_save_15 : decode cX1_save 15 = .ok (.getfield 98, 3) := dk_180 0 98 (dk_at dksX1_save_0 15 rfl rfl)
theorem dX1_save_18 : decode cX1_save 18 = .ok (.invokevirtual 71, 3) := dk_182 0 71 (dk_at dksX1_save_0 18 rfl rfl)
theorem dX1_save_21 : decode cX1_save 21 = .ok (.ireturn, 1) := dk_172 (dk_at dksX1_save_0 21 rfl rfl)
abbrev cX1_mat : ByteArray := prog_1_method_15_code
def yX1_mat : MethodName := ⟨RX1, "mat", "()I"⟩
def dkwX1_mat_0 : List UInt8 := [42, 186, 0, 119, 0, 0, 182, 0, 122, 172]
abbrev dktX1_mat_0 : List UInt8 := dkwX1_mat_0 ++ []
theorem dksX1_mat_0 : cX1_mat.data.toList.drop 0 = dktX1_mat_0 := by decide +kernel
theorem dX1_mat_0 : decode cX1_mat 0 = .ok (.aload_n 0, 1) := dk_42 (dk_at dksX1_mat_0 0 rfl rfl)
theorem dX1_mat_1 : decode cX1_mat 1 = .ok (.invokedynamic 119, 5) := by decide +kernel
theorem dX1_mat_6 : decode cX1_mat 6 = .ok (.invokevirtual 122, 3) := dk_182 0 122 (dk_at dksX1_mat_0 6 rfl rfl)
theorem dX1_mat_9 : decode cX1_mat 9 = .ok (.ireturn, 1) := dk_172 (dk_at dksX1_mat_0 9 rfl rfl)
abbrev cX1_lambda_mat_0 : ByteArray := prog_1_method_72_code
def yX1_lambda_mat_0 : MethodName := ⟨RX1, "lambda$mat$0", "(LJumpHall$Hall;)I"⟩
theorem dX1_lambda_mat_0_0 : decode cX1_lambda_mat_0 0 = .ok (.aload_n 0, 1) := by decide +kernel
theorem dX1_lambda_mat_0_1 : decode cX1_lambda_mat_0 1 = .ok (.invokevirtual 457, 3) := by decide +kernel
theorem dX1_lambda_mat_0_4 : decode cX1_lambda_mat_0 4 = .ok (.ireturn, 1) := by decide +kernel
abbrev cX1_refuse : ByteArray := prog_1_method_8_code
def yX1_refuse : MethodName := ⟨RX1, "refuse", "(ZII)V"⟩
def dkwX1_refuse_0 : List UInt8 := [26, 153, 0, 13, 187, 0, 25, 89, 27, 28, 183, 0, 27, 191, 177]
abbrev dktX1_refuse_0 : List UInt8 := dkwX1_refuse_0 ++ []
theorem dksX1_refuse_0 : cX1_refuse.data.toList.drop 0 = dktX1_refuse_0 := by decide +kernel
theorem dX1_refuse_0 : decode cX1_refuse 0 = .ok (.iload_n 0, 1) := dk_26 (dk_at dksX1_refuse_0 0 rfl rfl)
theorem dX1_refuse_1 : decode cX1_refuse 1 = .ok (.ifCond .eq 13, 3) := dk_153 0 13 (dk_at dksX1_refuse_0 1 rfl rfl)
theorem dX1_refuse_4 : decode cX1_refuse 4 = .ok (.new 25, 3) := dk_187 0 25 (dk_at dksX1_refuse_0 4 rfl rfl)
theorem dX1_refuse_7 : decode cX1_refuse 7 = .ok (.dup, 1) := dk_89 (dk_at dksX1_refuse_0 7 rfl rfl)
theorem dX1_refuse_8 : decode cX1_refuse 8 = .ok (.iload_n 1, 1) := dk_27 (dk_at dksX1_refuse_0 8 rfl rfl)
theorem dX1_refuse_9 : decode cX1_refuse 9 = .ok (.iload_n 2, 1) := dk_28 (dk_at dksX1_refuse_0 9 rfl rfl)
theorem dX1_refuse_10 : decode cX1_refuse 10 = .ok (.invokespecial 27, 3) := dk_183 0 27 (dk_at dksX1_refuse_0 10 rfl rfl)
theorem dX1_refuse_13 : decode cX1_refuse 13 = .ok (.athrow, 1) := dk_191 (dk_at dksX1_refuse_0 13 rfl rfl)
theorem dX1_refuse_14 : decode cX1_refuse 14 = .ok (.return_, 1) := dk_177 (dk_at dksX1_refuse_0 14 rfl rfl)
abbrev cX1_does : ByteArray := prog_1_method_11_code
def yX1_does : MethodName := ⟨RX1, "does", "(LJumpHall$Deed;)I"⟩
def dkwX1_does_3 : List UInt8 := [191]
abbrev dktX1_does_3 : List UInt8 := dkwX1_does_3 ++ []
def dkwX1_does_2 : List UInt8 := [182, 0, 79, 87, 42, 44, 181, 0, 39, 29, 172, 78, 42, 45, 181, 0, 83, 187, 0, 87, 89, 183, 0, 89]
abbrev dktX1_does_2 : List UInt8 := dkwX1_does_2 ++ dktX1_does_3
def dkwX1_does_1 : List UInt8 := [16, 6, 160, 0, 12, 42, 180, 0, 46, 3, 182, 0, 75, 87, 42, 180, 0, 46, 42, 180, 0, 39]
abbrev dktX1_does_1 : List UInt8 := dkwX1_does_1 ++ dktX1_does_2
def dkwX1_does_0 : List UInt8 := [42, 180, 0, 39, 182, 0, 61, 77, 43, 44, 185, 0, 65, 2, 0, 62, 42, 180, 0, 46, 182, 0, 71]
abbrev dktX1_does_0 : List UInt8 := dkwX1_does_0 ++ dktX1_does_1
theorem dksX1_does_0 : cX1_does.data.toList.drop 0 = dktX1_does_0 := by decide +kernel
theorem dksX1_does_1 : cX1_does.data.toList.drop 23 = dktX1_does_1 := dk_seg dksX1_does_0 23 rfl rfl
theorem dksX1_does_2 : cX1_does.data.toList.drop 45 = dktX1_does_2 := dk_seg dksX1_does_1 22 rfl rfl
theorem dksX1_does_3 : cX1_does.data.toList.drop 69 = dktX1_does_3 := dk_seg dksX1_does_2 24 rfl rfl
theorem dX1_does_0 : decode cX1_does 0 = .ok (.aload_n 0, 1) := dk_42 (dk_at dksX1_does_0 0 rfl rfl)
theorem dX1_does_1 : decode cX1_does 1 = .ok (.getfield 39, 3) := dk_180 0 39 (dk_at dksX1_does_0 1 rfl rfl)
theorem dX1_does_4 : decode cX1_does 4 = .ok (.invokevirtual 61, 3) := dk_182 0 61 (dk_at dksX1_does_0 4 rfl rfl)
theorem dX1_does_7 : decode cX1_does 7 = .ok (.astore_n 2, 1) := dk_77 (dk_at dksX1_does_0 7 rfl rfl)
theorem dX1_does_8 : decode cX1_does 8 = .ok (.aload_n 1, 1) := dk_43 (dk_at dksX1_does_0 8 rfl rfl)
theorem dX1_does_9 : decode cX1_does 9 = .ok (.aload_n 2, 1) := dk_44 (dk_at dksX1_does_0 9 rfl rfl)
theorem dX1_does_10 : decode cX1_does 10 = .ok (.invokeinterface 65 2, 5) := by decide +kernel
theorem dX1_does_15 : decode cX1_does 15 = .ok (.istore_n 3, 1) := dk_62 (dk_at dksX1_does_0 15 rfl rfl)
theorem dX1_does_16 : decode cX1_does 16 = .ok (.aload_n 0, 1) := dk_42 (dk_at dksX1_does_0 16 rfl rfl)
theorem dX1_does_17 : decode cX1_does 17 = .ok (.getfield 46, 3) := dk_180 0 46 (dk_at dksX1_does_0 17 rfl rfl)
theorem dX1_does_20 : decode cX1_does 20 = .ok (.invokevirtual 71, 3) := dk_182 0 71 (dk_at dksX1_does_0 20 rfl rfl)
theorem dX1_does_23 : decode cX1_does 23 = .ok (.bipush 6, 2) := dk_16 6 (dk_at dksX1_does_1 0 rfl rfl)
theorem dX1_does_25 : decode cX1_does 25 = .ok (.if_icmp .ne 12, 3) := dk_160 0 12 (dk_at dksX1_does_1 2 rfl rfl)
theorem dX1_does_28 : decode cX1_does 28 = .ok (.aload_n 0, 1) := dk_42 (dk_at dksX1_does_1 5 rfl rfl)
theorem dX1_does_29 : decode cX1_does 29 = .ok (.getfield 46, 3) := dk_180 0 46 (dk_at dksX1_does_1 6 rfl rfl)
theorem dX1_does_32 : decode cX1_does 32 = .ok (.iconst 0, 1) := dk_3 (dk_at dksX1_does_1 9 rfl rfl)
theorem dX1_does_33 : decode cX1_does 33 = .ok (.invokevirtual 75, 3) := dk_182 0 75 (dk_at dksX1_does_1 10 rfl rfl)
theorem dX1_does_36 : decode cX1_does 36 = .ok (.pop, 1) := dk_87 (dk_at dksX1_does_1 13 rfl rfl)
theorem dX1_does_37 : decode cX1_does 37 = .ok (.aload_n 0, 1) := dk_42 (dk_at dksX1_does_1 14 rfl rfl)
theorem dX1_does_38 : decode cX1_does 38 = .ok (.getfield 46, 3) := dk_180 0 46 (dk_at dksX1_does_1 15 rfl rfl)
theorem dX1_does_41 : decode cX1_does 41 = .ok (.aload_n 0, 1) := dk_42 (dk_at dksX1_does_1 18 rfl rfl)
theorem dX1_does_42 : decode cX1_does 42 = .ok (.getfield 39, 3) := dk_180 0 39 (dk_at dksX1_does_1 19 rfl rfl)
theorem dX1_does_45 : decode cX1_does 45 = .ok (.invokevirtual 79, 3) := dk_182 0 79 (dk_at dksX1_does_2 0 rfl rfl)
theorem dX1_does_48 : decode cX1_does 48 = .ok (.pop, 1) := dk_87 (dk_at dksX1_does_2 3 rfl rfl)
theorem dX1_does_49 : decode cX1_does 49 = .ok (.aload_n 0, 1) := dk_42 (dk_at dksX1_does_2 4 rfl rfl)
theorem dX1_does_50 : decode cX1_does 50 = .ok (.aload_n 2, 1) := dk_44 (dk_at dksX1_does_2 5 rfl rfl)
theorem dX1_does_51 : decode cX1_does 51 = .ok (.putfield 39, 3) := dk_181 0 39 (dk_at dksX1_does_2 6 rfl rfl)
theorem dX1_does_54 : decode cX1_does 54 = .ok (.iload_n 3, 1) := dk_29 (dk_at dksX1_does_2 9 rfl rfl)
theorem dX1_does_55 : decode cX1_does 55 = .ok (.ireturn, 1) := dk_172 (dk_at dksX1_does_2 10 rfl rfl)
theorem dX1_does_56 : decode cX1_does 56 = .ok (.astore_n 3, 1) := dk_78 (dk_at dksX1_does_2 11 rfl rfl)
theorem dX1_does_57 : decode cX1_does 57 = .ok (.aload_n 0, 1) := dk_42 (dk_at dksX1_does_2 12 rfl rfl)
theorem dX1_does_58 : decode cX1_does 58 = .ok (.aload_n 3, 1) := dk_45 (dk_at dksX1_does_2 13 rfl rfl)
theorem dX1_does_59 : decode cX1_does 59 = .ok (.putfield 83, 3) := dk_181 0 83 (dk_at dksX1_does_2 14 rfl rfl)
theorem dX1_does_62 : decode cX1_does 62 = .ok (.new 87, 3) := dk_187 0 87 (dk_at dksX1_does_2 17 rfl rfl)
theorem dX1_does_65 : decode cX1_does 65 = .ok (.dup, 1) := dk_89 (dk_at dksX1_does_2 20 rfl rfl)
theorem dX1_does_66 : decode cX1_does 66 = .ok (.invokespecial 89, 3) := dk_183 0 89 (dk_at dksX1_does_2 21 rfl rfl)
theorem dX1_does_69 : decode cX1_does 69 = .ok (.athrow, 1) := dk_191 (dk_at dksX1_does_3 0 rfl rfl)
abbrev cX1_fix : ByteArray := prog_1_method_16_code
def yX1_fix : MethodName := ⟨RX1, "fix", "(II)I"⟩
def dkwX1_fix_1 : List UInt8 := [167, 0, 4, 3, 184, 0, 94, 42, 27, 28, 186, 0, 126, 0, 0, 182, 0, 122, 172]
abbrev dktX1_fix_1 : List UInt8 := dkwX1_fix_1 ++ []
def dkwX1_fix_0 : List UInt8 := [42, 180, 0, 39, 27, 182, 0, 90, 153, 0, 17, 28, 3, 16, 7, 184, 0, 3, 153, 0, 7, 4]
abbrev dktX1_fix_0 : List UInt8 := dkwX1_fix_0 ++ dktX1_fix_1
theorem dksX1_fix_0 : cX1_fix.data.toList.drop 0 = dktX1_fix_0 := by decide +kernel
theorem dksX1_fix_1 : cX1_fix.data.toList.drop 22 = dktX1_fix_1 := dk_seg dksX1_fix_0 22 rfl rfl
theorem dX1_fix_0 : decode cX1_fix 0 = .ok (.aload_n 0, 1) := dk_42 (dk_at dksX1_fix_0 0 rfl rfl)
theorem dX1_fix_1 : decode cX1_fix 1 = .ok (.getfield 39, 3) := dk_180 0 39 (dk_at dksX1_fix_0 1 rfl rfl)
theorem dX1_fix_4 : decode cX1_fix 4 = .ok (.iload_n 1, 1) := dk_27 (dk_at dksX1_fix_0 4 rfl rfl)
theorem dX1_fix_5 : decode cX1_fix 5 = .ok (.invokevirtual 90, 3) := dk_182 0 90 (dk_at dksX1_fix_0 5 rfl rfl)
theorem dX1_fix_8 : decode cX1_fix 8 = .ok (.ifCond .eq 17, 3) := dk_153 0 17 (dk_at dksX1_fix_0 8 rfl rfl)
theorem dX1_fix_11 : decode cX1_fix 11 = .ok (.iload_n 2, 1) := dk_28 (dk_at dksX1_fix_0 11 rfl rfl)
theorem dX1_fix_12 : decode cX1_fix 12 = .ok (.iconst 0, 1) := dk_3 (dk_at dksX1_fix_0 12 rfl rfl)
theorem dX1_fix_13 : decode cX1_fix 13 = .ok (.bipush 7, 2) := dk_16 7 (dk_at dksX1_fix_0 13 rfl rfl)
theorem dX1_fix_15 : decode cX1_fix 15 = .ok (.invokestatic 3, 3) := dk_184 0 3 (dk_at dksX1_fix_0 15 rfl rfl)
theorem dX1_fix_18 : decode cX1_fix 18 = .ok (.ifCond .eq 7, 3) := dk_153 0 7 (dk_at dksX1_fix_0 18 rfl rfl)
theorem dX1_fix_21 : decode cX1_fix 21 = .ok (.iconst 1, 1) := dk_4 (dk_at dksX1_fix_0 21 rfl rfl)
theorem dX1_fix_22 : decode cX1_fix 22 = .ok (.goto 4, 3) := dk_167 0 4 (dk_at dksX1_fix_1 0 rfl rfl)
theorem dX1_fix_25 : decode cX1_fix 25 = .ok (.iconst 0, 1) := dk_3 (dk_at dksX1_fix_1 3 rfl rfl)
theorem dX1_fix_26 : decode cX1_fix 26 = .ok (.invokestatic 94, 3) := dk_184 0 94 (dk_at dksX1_fix_1 4 rfl rfl)
theorem dX1_fix_29 : decode cX1_fix 29 = .ok (.aload_n 0, 1) := dk_42 (dk_at dksX1_fix_1 7 rfl rfl)
theorem dX1_fix_30 : decode cX1_fix 30 = .ok (.iload_n 1, 1) := dk_27 (dk_at dksX1_fix_1 8 rfl rfl)
theorem dX1_fix_31 : decode cX1_fix 31 = .ok (.iload_n 2, 1) := dk_28 (dk_at dksX1_fix_1 9 rfl rfl)
theorem dX1_fix_32 : decode cX1_fix 32 = .ok (.invokedynamic 126, 5) := by decide +kernel
theorem dX1_fix_37 : decode cX1_fix 37 = .ok (.invokevirtual 122, 3) := dk_182 0 122 (dk_at dksX1_fix_1 15 rfl rfl)
theorem dX1_fix_40 : decode cX1_fix 40 = .ok (.ireturn, 1) := dk_172 (dk_at dksX1_fix_1 18 rfl rfl)
abbrev cX1_isIn : ByteArray := prog_1_method_1_code
def yX1_isIn : MethodName := ⟨RX1, "isIn", "(III)Z"⟩
def dkwX1_isIn_0 : List UInt8 := [26, 27, 161, 0, 12, 26, 28, 163, 0, 7, 4, 167, 0, 4, 3, 172]
abbrev dktX1_isIn_0 : List UInt8 := dkwX1_isIn_0 ++ []
theorem dksX1_isIn_0 : cX1_isIn.data.toList.drop 0 = dktX1_isIn_0 := by decide +kernel
theorem dX1_isIn_0 : decode cX1_isIn 0 = .ok (.iload_n 0, 1) := dk_26 (dk_at dksX1_isIn_0 0 rfl rfl)
theorem dX1_isIn_1 : decode cX1_isIn 1 = .ok (.iload_n 1, 1) := dk_27 (dk_at dksX1_isIn_0 1 rfl rfl)
theorem dX1_isIn_2 : decode cX1_isIn 2 = .ok (.if_icmp .lt 12, 3) := dk_161 0 12 (dk_at dksX1_isIn_0 2 rfl rfl)
theorem dX1_isIn_5 : decode cX1_isIn 5 = .ok (.iload_n 0, 1) := dk_26 (dk_at dksX1_isIn_0 5 rfl rfl)
theorem dX1_isIn_6 : decode cX1_isIn 6 = .ok (.iload_n 2, 1) := dk_28 (dk_at dksX1_isIn_0 6 rfl rfl)
theorem dX1_isIn_7 : decode cX1_isIn 7 = .ok (.if_icmp .gt 7, 3) := dk_163 0 7 (dk_at dksX1_isIn_0 7 rfl rfl)
theorem dX1_isIn_10 : decode cX1_isIn 10 = .ok (.iconst 1, 1) := dk_4 (dk_at dksX1_isIn_0 10 rfl rfl)
theorem dX1_isIn_11 : decode cX1_isIn 11 = .ok (.goto 4, 3) := dk_167 0 4 (dk_at dksX1_isIn_0 11 rfl rfl)
theorem dX1_isIn_14 : decode cX1_isIn 14 = .ok (.iconst 0, 1) := dk_3 (dk_at dksX1_isIn_0 14 rfl rfl)
theorem dX1_isIn_15 : decode cX1_isIn 15 = .ok (.ireturn, 1) := dk_172 (dk_at dksX1_isIn_0 15 rfl rfl)
abbrev cX1_checkIndex : ByteArray := prog_1_method_4_code
def yX1_checkIndex : MethodName := ⟨RX1, "checkIndex", "(Z)V"⟩
def dkwX1_checkIndex_0 : List UInt8 := [26, 154, 0, 11, 187, 0, 13, 89, 183, 0, 15, 191, 177]
abbrev dktX1_checkIndex_0 : List UInt8 := dkwX1_checkIndex_0 ++ []
theorem dksX1_checkIndex_0 : cX1_checkIndex.data.toList.drop 0 = dktX1_checkIndex_0 := by decide +kernel
theorem dX1_checkIndex_0 : decode cX1_checkIndex 0 = .ok (.iload_n 0, 1) := dk_26 (dk_at dksX1_checkIndex_0 0 rfl rfl)
theorem dX1_checkIndex_1 : decode cX1_checkIndex 1 = .ok (.ifCond .ne 11, 3) := dk_154 0 11 (dk_at dksX1_checkIndex_0 1 rfl rfl)
theorem dX1_checkIndex_4 : decode cX1_checkIndex 4 = .ok (.new 13, 3) := dk_187 0 13 (dk_at dksX1_checkIndex_0 4 rfl rfl)
theorem dX1_checkIndex_7 : decode cX1_checkIndex 7 = .ok (.dup, 1) := dk_89 (dk_at dksX1_checkIndex_0 7 rfl rfl)
theorem dX1_checkIndex_8 : decode cX1_checkIndex 8 = .ok (.invokespecial 15, 3) := dk_183 0 15 (dk_at dksX1_checkIndex_0 8 rfl rfl)
theorem dX1_checkIndex_11 : decode cX1_checkIndex 11 = .ok (.athrow, 1) := dk_191 (dk_at dksX1_checkIndex_0 11 rfl rfl)
theorem dX1_checkIndex_12 : decode cX1_checkIndex 12 = .ok (.return_, 1) := dk_177 (dk_at dksX1_checkIndex_0 12 rfl rfl)
abbrev cX1_lambda_fix_1 : ByteArray := prog_1_method_71_code
def yX1_lambda_fix_1 : MethodName := ⟨RX1, "lambda$fix$1", "(IILJumpHall$Hall;)I"⟩
def dkwX1_lambda_fix_1_0 : List UInt8 := [44, 26, 27, 182, 1, 198, 172]
abbrev dktX1_lambda_fix_1_0 : List UInt8 := dkwX1_lambda_fix_1_0 ++ []
theorem dksX1_lambda_fix_1_0 : cX1_lambda_fix_1.data.toList.drop 0 = dktX1_lambda_fix_1_0 := by decide +kernel
theorem dX1_lambda_fix_1_0 : decode cX1_lambda_fix_1 0 = .ok (.aload_n 2, 1) := dk_44 (dk_at dksX1_lambda_fix_1_0 0 rfl rfl)
theorem dX1_lambda_fix_1_1 : decode cX1_lambda_fix_1 1 = .ok (.iload_n 0, 1) := dk_26 (dk_at dksX1_lambda_fix_1_0 1 rfl rfl)
theorem dX1_lambda_fix_1_2 : decode cX1_lambda_fix_1 2 = .ok (.iload_n 1, 1) := dk_27 (dk_at dksX1_lambda_fix_1_0 2 rfl rfl)
theorem dX1_lambda_fix_1_3 : decode cX1_lambda_fix_1 3 = .ok (.invokevirtual 454, 3) := dk_182 1 198 (dk_at dksX1_lambda_fix_1_0 3 rfl rfl)
theorem dX1_lambda_fix_1_6 : decode cX1_lambda_fix_1 6 = .ok (.ireturn, 1) := dk_172 (dk_at dksX1_lambda_fix_1_0 6 rfl rfl)
abbrev cX1_open : ByteArray := prog_1_method_17_code
def yX1_open : MethodName := ⟨RX1, "open", "(I)I"⟩
def dkwX1_open_0 : List UInt8 := [42, 27, 182, 0, 129, 77, 42, 27, 186, 0, 133, 0, 0, 182, 0, 122, 172]
abbrev dktX1_open_0 : List UInt8 := dkwX1_open_0 ++ []
theorem dksX1_open_0 : cX1_open.data.toList.drop 0 = dktX1_open_0 := by decide +kernel
theorem dX1_open_0 : decode cX1_open 0 = .ok (.aload_n 0, 1) := dk_42 (dk_at dksX1_open_0 0 rfl rfl)
theorem dX1_open_1 : decode cX1_open 1 = .ok (.iload_n 1, 1) := dk_27 (dk_at dksX1_open_0 1 rfl rfl)
theorem dX1_open_2 : decode cX1_open 2 = .ok (.invokevirtual 129, 3) := dk_182 0 129 (dk_at dksX1_open_0 2 rfl rfl)
theorem dX1_open_5 : decode cX1_open 5 = .ok (.astore_n 2, 1) := dk_77 (dk_at dksX1_open_0 5 rfl rfl)
theorem dX1_open_6 : decode cX1_open 6 = .ok (.aload_n 0, 1) := dk_42 (dk_at dksX1_open_0 6 rfl rfl)
theorem dX1_open_7 : decode cX1_open 7 = .ok (.iload_n 1, 1) := dk_27 (dk_at dksX1_open_0 7 rfl rfl)
theorem dX1_open_8 : decode cX1_open 8 = .ok (.invokedynamic 133, 5) := by decide +kernel
theorem dX1_open_13 : decode cX1_open 13 = .ok (.invokevirtual 122, 3) := dk_182 0 122 (dk_at dksX1_open_0 13 rfl rfl)
theorem dX1_open_16 : decode cX1_open 16 = .ok (.ireturn, 1) := dk_172 (dk_at dksX1_open_0 16 rfl rfl)
abbrev cX1_matAt : ByteArray := prog_1_method_12_code
def yX1_matAt : MethodName := ⟨RX1, "matAt", "(I)LJumpHall$Mat;"⟩
def dkwX1_matAt_1 : List UInt8 := [192, 0, 104, 176]
abbrev dktX1_matAt_1 : List UInt8 := dkwX1_matAt_1 ++ []
def dkwX1_matAt_0 : List UInt8 := [42, 180, 0, 39, 27, 182, 0, 90, 184, 0, 94, 42, 180, 0, 39, 180, 0, 98, 27, 182, 0, 101]
abbrev dktX1_matAt_0 : List UInt8 := dkwX1_matAt_0 ++ dktX1_matAt_1
theorem dksX1_matAt_0 : cX1_matAt.data.toList.drop 0 = dktX1_matAt_0 := by decide +kernel
theorem dksX1_matAt_1 : cX1_matAt.data.toList.drop 22 = dktX1_matAt_1 := dk_seg dksX1_matAt_0 22 rfl rfl
theorem dX1_matAt_0 : decode cX1_matAt 0 = .ok (.aload_n 0, 1) := dk_42 (dk_at dksX1_matAt_0 0 rfl rfl)
theorem dX1_matAt_1 : decode cX1_matAt 1 = .ok (.getfield 39, 3) := dk_180 0 39 (dk_at dksX1_matAt_0 1 rfl rfl)
theorem dX1_matAt_4 : decode cX1_matAt 4 = .ok (.iload_n 1, 1) := dk_27 (dk_at dksX1_matAt_0 4 rfl rfl)
theorem dX1_matAt_5 : decode cX1_matAt 5 = .ok (.invokevirtual 90, 3) := dk_182 0 90 (dk_at dksX1_matAt_0 5 rfl rfl)
theorem dX1_matAt_8 : decode cX1_matAt 8 = .ok (.invokestatic 94, 3) := dk_184 0 94 (dk_at dksX1_matAt_0 8 rfl rfl)
theorem dX1_matAt_11 : decode cX1_matAt 11 = .ok (.aload_n 0, 1) := dk_42 (dk_at dksX1_matAt_0 11 rfl rfl)
theorem dX1_matAt_12 : decode cX1_matAt 12 = .ok (.getfield 39, 3) := dk_180 0 39 (dk_at dksX1_matAt_0 12 rfl rfl)
theorem dX1_matAt_15 : decode cX1_matAt 15 = .ok (.getfield 98, 3) := dk_180 0 98 (dk_at dksX1_matAt_0 15 rfl rfl)
theorem dX1_matAt_18 : decode cX1_matAt 18 = .ok (.iload_n 1, 1) := dk_27 (dk_at dksX1_matAt_0 18 rfl rfl)
theorem dX1_matAt_19 : decode cX1_matAt 19 = .ok (.invokevirtual 101, 3) := dk_182 0 101 (dk_at dksX1_matAt_0 19 rfl rfl)
theorem dX1_matAt_22 : decode cX1_matAt 22 = .ok (.checkcast 104, 3) := dk_192 0 104 (dk_at dksX1_matAt_1 0 rfl rfl)
theorem dX1_matAt_25 : decode cX1_matAt 25 = .ok (.areturn, 1) := dk_176 (dk_at dksX1_matAt_1 3 rfl rfl)
abbrev cX1_lambda_open_2 : ByteArray := prog_1_method_70_code
def yX1_lambda_open_2 : MethodName := ⟨RX1, "lambda$open$2", "(ILJumpHall$Hall;)I"⟩
def dkwX1_lambda_open_2_0 : List UInt8 := [43, 26, 182, 1, 195, 172]
abbrev dktX1_lambda_open_2_0 : List UInt8 := dkwX1_lambda_open_2_0 ++ []
theorem dksX1_lambda_open_2_0 : cX1_lambda_open_2.data.toList.drop 0 = dktX1_lambda_open_2_0 := by decide +kernel
theorem dX1_lambda_open_2_0 : decode cX1_lambda_open_2 0 = .ok (.aload_n 1, 1) := dk_43 (dk_at dksX1_lambda_open_2_0 0 rfl rfl)
theorem dX1_lambda_open_2_1 : decode cX1_lambda_open_2 1 = .ok (.iload_n 0, 1) := dk_26 (dk_at dksX1_lambda_open_2_0 1 rfl rfl)
theorem dX1_lambda_open_2_2 : decode cX1_lambda_open_2 2 = .ok (.invokevirtual 451, 3) := dk_182 1 195 (dk_at dksX1_lambda_open_2_0 2 rfl rfl)
theorem dX1_lambda_open_2_5 : decode cX1_lambda_open_2 5 = .ok (.ireturn, 1) := dk_172 (dk_at dksX1_lambda_open_2_0 5 rfl rfl)
abbrev cX1_matOf : ByteArray := prog_1_method_18_code
def yX1_matOf : MethodName := ⟨RX1, "matOf", "(II)I"⟩
def dkwX1_matOf_5 : List UInt8 := [182, 0, 164, 167, 0, 7, 45, 180, 0, 167, 172]
abbrev dktX1_matOf_5 : List UInt8 := dkwX1_matOf_5 ++ []
def dkwX1_matOf_4 : List UInt8 := [182, 0, 156, 167, 0, 29, 42, 180, 0, 39, 27, 182, 0, 160, 167, 0, 18, 42, 180, 0, 39, 27]
abbrev dktX1_matOf_4 : List UInt8 := dkwX1_matOf_4 ++ dktX1_matOf_5
def dkwX1_matOf_3 : List UInt8 := [180, 0, 148, 153, 0, 7, 3, 167, 0, 49, 4, 167, 0, 45, 42, 180, 0, 39, 27, 186, 0, 152, 0, 0]
abbrev dktX1_matOf_3 : List UInt8 := dkwX1_matOf_3 ++ dktX1_matOf_4
def dkwX1_matOf_2 : List UInt8 := [45, 182, 0, 139, 167, 0, 74, 45, 182, 0, 142, 167, 0, 67, 45, 182, 0, 145, 167, 0, 60, 45]
abbrev dktX1_matOf_2 : List UInt8 := dkwX1_matOf_2 ++ dktX1_matOf_3
def dkwX1_matOf_1 : List UInt8 := [170, 0, 0, 0, 0, 0, 117, 0, 0, 0, 0, 0, 0, 0, 6, 0, 0, 0, 43, 0, 0, 0, 50, 0, 0, 0, 57, 0, 0, 0, 64, 0, 0, 0, 79, 0, 0, 0, 95, 0, 0, 0, 106]
abbrev dktX1_matOf_1 : List UInt8 := dkwX1_matOf_1 ++ dktX1_matOf_2
def dkwX1_matOf_0 : List UInt8 := [42, 27, 182, 0, 129, 78, 28, 3, 16, 7, 184, 0, 3, 184, 0, 136, 28]
abbrev dktX1_matOf_0 : List UInt8 := dkwX1_matOf_0 ++ dktX1_matOf_1
theorem dksX1_matOf_0 : cX1_matOf.data.toList.drop 0 = dktX1_matOf_0 := by decide +kernel
theorem dksX1_matOf_1 : cX1_matOf.data.toList.drop 17 = dktX1_matOf_1 := dk_seg dksX1_matOf_0 17 rfl rfl
theorem dksX1_matOf_2 : cX1_matOf.data.toList.drop 60 = dktX1_matOf_2 := dk_seg dksX1_matOf_1 43 rfl rfl
theorem dksX1_matOf_3 : cX1_matOf.data.toList.drop 82 = dktX1_matOf_3 := dk_seg dksX1_matOf_2 22 rfl rfl
theorem dksX1_matOf_4 : cX1_matOf.data.toList.drop 106 = dktX1_matOf_4 := dk_seg dksX1_matOf_3 24 rfl rfl
theorem dksX1_matOf_5 : cX1_matOf.data.toList.drop 128 = dktX1_matOf_5 := dk_seg dksX1_matOf_4 22 rfl rfl
theorem dX1_matOf_0 : decode cX1_matOf 0 = .ok (.aload_n 0, 1) := dk_42 (dk_at dksX1_matOf_0 0 rfl rfl)
theorem dX1_matOf_1 : decode cX1_matOf 1 = .ok (.iload_n 1, 1) := dk_27 (dk_at dksX1_matOf_0 1 rfl rfl)
theorem dX1_matOf_2 : decode cX1_matOf 2 = .ok (.invokevirtual 129, 3) := dk_182 0 129 (dk_at dksX1_matOf_0 2 rfl rfl)
theorem dX1_matOf_5 : decode cX1_matOf 5 = .ok (.astore_n 3, 1) := dk_78 (dk_at dksX1_matOf_0 5 rfl rfl)
theorem dX1_matOf_6 : decode cX1_matOf 6 = .ok (.iload_n 2, 1) := dk_28 (dk_at dksX1_matOf_0 6 rfl rfl)
theorem dX1_matOf_7 : decode cX1_matOf 7 = .ok (.iconst 0, 1) := dk_3 (dk_at dksX1_matOf_0 7 rfl rfl)
theorem dX1_matOf_8 : decode cX1_matOf 8 = .ok (.bipush 7, 2) := dk_16 7 (dk_at dksX1_matOf_0 8 rfl rfl)
theorem dX1_matOf_10 : decode cX1_matOf 10 = .ok (.invokestatic 3, 3) := dk_184 0 3 (dk_at dksX1_matOf_0 10 rfl rfl)
theorem dX1_matOf_13 : decode cX1_matOf 13 = .ok (.invokestatic 136, 3) := dk_184 0 136 (dk_at dksX1_matOf_0 13 rfl rfl)
theorem dX1_matOf_16 : decode cX1_matOf 16 = .ok (.iload_n 2, 1) := dk_28 (dk_at dksX1_matOf_0 16 rfl rfl)
theorem dX1_matOf_17 : decode cX1_matOf 17 = .ok (.tableswitch 117 0 6 #[43, 50, 57, 64, 79, 95, 106], 43) := by decide +kernel
theorem dX1_matOf_60 : decode cX1_matOf 60 = .ok (.aload_n 3, 1) := dk_45 (dk_at dksX1_matOf_2 0 rfl rfl)
theorem dX1_matOf_61 : decode cX1_matOf 61 = .ok (.invokevirtual 139, 3) := dk_182 0 139 (dk_at dksX1_matOf_2 1 rfl rfl)
theorem dX1_matOf_64 : decode cX1_matOf 64 = .ok (.goto 74, 3) := dk_167 0 74 (dk_at dksX1_matOf_2 4 rfl rfl)
theorem dX1_matOf_67 : decode cX1_matOf 67 = .ok (.aload_n 3, 1) := dk_45 (dk_at dksX1_matOf_2 7 rfl rfl)
theorem dX1_matOf_68 : decode cX1_matOf 68 = .ok (.invokevirtual 142, 3) := dk_182 0 142 (dk_at dksX1_matOf_2 8 rfl rfl)
theorem dX1_matOf_71 : decode cX1_matOf 71 = .ok (.goto 67, 3) := dk_167 0 67 (dk_at dksX1_matOf_2 11 rfl rfl)
theorem dX1_matOf_74 : decode cX1_matOf 74 = .ok (.aload_n 3, 1) := dk_45 (dk_at dksX1_matOf_2 14 rfl rfl)
theorem dX1_matOf_75 : decode cX1_matOf 75 = .ok (.invokevirtual 145, 3) := dk_182 0 145 (dk_at dksX1_matOf_2 15 rfl rfl)
theorem dX1_matOf_78 : decode cX1_matOf 78 = .ok (.goto 60, 3) := dk_167 0 60 (dk_at dksX1_matOf_2 18 rfl rfl)
theorem dX1_matOf_81 : decode cX1_matOf 81 = .ok (.aload_n 3, 1) := dk_45 (dk_at dksX1_matOf_2 21 rfl rfl)
theorem dX1_matOf_82 : decode cX1_matOf 82 = .ok (.getfield 148, 3) := dk_180 0 148 (dk_at dksX1_matOf_3 0 rfl rfl)
theorem dX1_matOf_85 : decode cX1_matOf 85 = .ok (.ifCond .eq 7, 3) := dk_153 0 7 (dk_at dksX1_matOf_3 3 rfl rfl)
theorem dX1_matOf_88 : decode cX1_matOf 88 = .ok (.iconst 0, 1) := dk_3 (dk_at dksX1_matOf_3 6 rfl rfl)
theorem dX1_matOf_89 : decode cX1_matOf 89 = .ok (.goto 49, 3) := dk_167 0 49 (dk_at dksX1_matOf_3 7 rfl rfl)
theorem dX1_matOf_92 : decode cX1_matOf 92 = .ok (.iconst 1, 1) := dk_4 (dk_at dksX1_matOf_3 10 rfl rfl)
theorem dX1_matOf_93 : decode cX1_matOf 93 = .ok (.goto 45, 3) := dk_167 0 45 (dk_at dksX1_matOf_3 11 rfl rfl)
theorem dX1_matOf_96 : decode cX1_matOf 96 = .ok (.aload_n 0, 1) := dk_42 (dk_at dksX1_matOf_3 14 rfl rfl)
theorem dX1_matOf_97 : decode cX1_matOf 97 = .ok (.getfield 39, 3) := dk_180 0 39 (dk_at dksX1_matOf_3 15 rfl rfl)
theorem dX1_matOf_100 : decode cX1_matOf 100 = .ok (.iload_n 1, 1) := dk_27 (dk_at dksX1_matOf_3 18 rfl rfl)
theorem dX1_matOf_101 : decode cX1_matOf 101 = .ok (.invokedynamic 152, 5) := by decide +kernel
theorem dX1_matOf_106 : decode cX1_matOf 106 = .ok (.invokevirtual 156, 3) := dk_182 0 156 (dk_at dksX1_matOf_4 0 rfl rfl)
theorem dX1_matOf_109 : decode cX1_matOf 109 = .ok (.goto 29, 3) := dk_167 0 29 (dk_at dksX1_matOf_4 3 rfl rfl)
theorem dX1_matOf_112 : decode cX1_matOf 112 = .ok (.aload_n 0, 1) := dk_42 (dk_at dksX1_matOf_4 6 rfl rfl)
theorem dX1_matOf_113 : decode cX1_matOf 113 = .ok (.getfield 39, 3) := dk_180 0 39 (dk_at dksX1_matOf_4 7 rfl rfl)
theorem dX1_matOf_116 : decode cX1_matOf 116 = .ok (.iload_n 1, 1) := dk_27 (dk_at dksX1_matOf_4 10 rfl rfl)
theorem dX1_matOf_117 : decode cX1_matOf 117 = .ok (.invokevirtual 160, 3) := dk_182 0 160 (dk_at dksX1_matOf_4 11 rfl rfl)
theorem dX1_matOf_120 : decode cX1_matOf 120 = .ok (.goto 18, 3) := dk_167 0 18 (dk_at dksX1_matOf_4 14 rfl rfl)
theorem dX1_matOf_123 : decode cX1_matOf 123 = .ok (.aload_n 0, 1) := dk_42 (dk_at dksX1_matOf_4 17 rfl rfl)
theorem dX1_matOf_124 : decode cX1_matOf 124 = .ok (.getfield 39, 3) := dk_180 0 39 (dk_at dksX1_matOf_4 18 rfl rfl)
theorem dX1_matOf_127 : decode cX1_matOf 127 = .ok (.iload_n 1, 1) := dk_27 (dk_at dksX1_matOf_4 21 rfl rfl)
theorem dX1_matOf_128 : decode cX1_matOf 128 = .ok (.invokevirtual 164, 3) := dk_182 0 164 (dk_at dksX1_matOf_5 0 rfl rfl)
theorem dX1_matOf_131 : decode cX1_matOf 131 = .ok (.goto 7, 3) := dk_167 0 7 (dk_at dksX1_matOf_5 3 rfl rfl)
theorem dX1_matOf_134 : decode cX1_matOf 134 = .ok (.aload_n 3, 1) := dk_45 (dk_at dksX1_matOf_5 6 rfl rfl)
theorem dX1_matOf_135 : decode cX1_matOf 135 = .ok (.getfield 167, 3) := dk_180 0 167 (dk_at dksX1_matOf_5 7 rfl rfl)
theorem dX1_matOf_138 : decode cX1_matOf 138 = .ok (.ireturn, 1) := dk_172 (dk_at dksX1_matOf_5 10 rfl rfl)
abbrev cX1_checkArgument : ByteArray := prog_1_method_3_code
def yX1_checkArgument : MethodName := ⟨RX1, "checkArgument", "(Z)V"⟩
def dkwX1_checkArgument_0 : List UInt8 := [26, 154, 0, 11, 187, 0, 7, 89, 183, 0, 9, 191, 177]
abbrev dktX1_checkArgument_0 : List UInt8 := dkwX1_checkArgument_0 ++ []
theorem dksX1_checkArgument_0 : cX1_checkArgument.data.toList.drop 0 = dktX1_checkArgument_0 := by decide +kernel
theorem dX1_checkArgument_0 : decode cX1_checkArgument 0 = .ok (.iload_n 0, 1) := dk_26 (dk_at dksX1_checkArgument_0 0 rfl rfl)
theorem dX1_checkArgument_1 : decode cX1_checkArgument 1 = .ok (.ifCond .ne 11, 3) := dk_154 0 11 (dk_at dksX1_checkArgument_0 1 rfl rfl)
theorem dX1_checkArgument_4 : decode cX1_checkArgument 4 = .ok (.new 7, 3) := dk_187 0 7 (dk_at dksX1_checkArgument_0 4 rfl rfl)
theorem dX1_checkArgument_7 : decode cX1_checkArgument 7 = .ok (.dup, 1) := dk_89 (dk_at dksX1_checkArgument_0 7 rfl rfl)
theorem dX1_checkArgument_8 : decode cX1_checkArgument 8 = .ok (.invokespecial 9, 3) := dk_183 0 9 (dk_at dksX1_checkArgument_0 8 rfl rfl)
theorem dX1_checkArgument_11 : decode cX1_checkArgument 11 = .ok (.athrow, 1) := dk_191 (dk_at dksX1_checkArgument_0 11 rfl rfl)
theorem dX1_checkArgument_12 : decode cX1_checkArgument 12 = .ok (.return_, 1) := dk_177 (dk_at dksX1_checkArgument_0 12 rfl rfl)
abbrev cX1_lambda_matOf_3 : ByteArray := prog_1_method_69_code
def yX1_lambda_matOf_3 : MethodName := ⟨RX1, "lambda$matOf$3", "(ILJumpHall$Jumper;)Z"⟩
def dkwX1_lambda_matOf_3_0 : List UInt8 := [43, 26, 182, 1, 46, 172]
abbrev dktX1_lambda_matOf_3_0 : List UInt8 := dkwX1_lambda_matOf_3_0 ++ []
theorem dksX1_lambda_matOf_3_0 : cX1_lambda_matOf_3.data.toList.drop 0 = dktX1_lambda_matOf_3_0 := by decide +kernel
theorem dX1_lambda_matOf_3_0 : decode cX1_lambda_matOf_3 0 = .ok (.aload_n 1, 1) := dk_43 (dk_at dksX1_lambda_matOf_3_0 0 rfl rfl)
theorem dX1_lambda_matOf_3_1 : decode cX1_lambda_matOf_3 1 = .ok (.iload_n 0, 1) := dk_26 (dk_at dksX1_lambda_matOf_3_0 1 rfl rfl)
theorem dX1_lambda_matOf_3_2 : decode cX1_lambda_matOf_3 2 = .ok (.invokevirtual 302, 3) := dk_182 1 46 (dk_at dksX1_lambda_matOf_3_0 2 rfl rfl)
theorem dX1_lambda_matOf_3_5 : decode cX1_lambda_matOf_3 5 = .ok (.ireturn, 1) := dk_172 (dk_at dksX1_lambda_matOf_3_0 5 rfl rfl)
abbrev cX1_wear : ByteArray := prog_1_method_19_code
def yX1_wear : MethodName := ⟨RX1, "wear", "(II)I"⟩
def dkwX1_wear_2 : List UInt8 := [28, 46, 172]
abbrev dktX1_wear_2 : List UInt8 := dkwX1_wear_2 ++ []
def dkwX1_wear_1 : List UInt8 := [167, 0, 4, 3, 184, 0, 94, 42, 180, 0, 39, 180, 0, 98, 27, 182, 0, 101, 192, 0, 104, 180, 0, 171]
abbrev dktX1_wear_1 : List UInt8 := dkwX1_wear_1 ++ dktX1_wear_2
def dkwX1_wear_0 : List UInt8 := [42, 180, 0, 39, 27, 182, 0, 90, 153, 0, 17, 28, 3, 16, 7, 184, 0, 3, 153, 0, 7, 4]
abbrev dktX1_wear_0 : List UInt8 := dkwX1_wear_0 ++ dktX1_wear_1
theorem dksX1_wear_0 : cX1_wear.data.toList.drop 0 = dktX1_wear_0 := by decide +kernel
theorem dksX1_wear_1 : cX1_wear.data.toList.drop 22 = dktX1_wear_1 := dk_seg dksX1_wear_0 22 rfl rfl
theorem dksX1_wear_2 : cX1_wear.data.toList.drop 46 = dktX1_wear_2 := dk_seg dksX1_wear_1 24 rfl rfl
theorem dX1_wear_0 : decode cX1_wear 0 = .ok (.aload_n 0, 1) := dk_42 (dk_at dksX1_wear_0 0 rfl rfl)
theorem dX1_wear_1 : decode cX1_wear 1 = .ok (.getfield 39, 3) := dk_180 0 39 (dk_at dksX1_wear_0 1 rfl rfl)
theorem dX1_wear_4 : decode cX1_wear 4 = .ok (.iload_n 1, 1) := dk_27 (dk_at dksX1_wear_0 4 rfl rfl)
theorem dX1_wear_5 : decode cX1_wear 5 = .ok (.invokevirtual 90, 3) := dk_182 0 90 (dk_at dksX1_wear_0 5 rfl rfl)
theorem dX1_wear_8 : decode cX1_wear 8 = .ok (.ifCond .eq 17, 3) := dk_153 0 17 (dk_at dksX1_wear_0 8 rfl rfl)
theorem dX1_wear_11 : decode cX1_wear 11 = .ok (.iload_n 2, 1) := dk_28 (dk_at dksX1_wear_0 11 rfl rfl)
theorem dX1_wear_12 : decode cX1_wear 12 = .ok (.iconst 0, 1) := dk_3 (dk_at dksX1_wear_0 12 rfl rfl)
theorem dX1_wear_13 : decode cX1_wear 13 = .ok (.bipush 7, 2) := dk_16 7 (dk_at dksX1_wear_0 13 rfl rfl)
theorem dX1_wear_15 : decode cX1_wear 15 = .ok (.invokestatic 3, 3) := dk_184 0 3 (dk_at dksX1_wear_0 15 rfl rfl)
theorem dX1_wear_18 : decode cX1_wear 18 = .ok (.ifCond .eq 7, 3) := dk_153 0 7 (dk_at dksX1_wear_0 18 rfl rfl)
theorem dX1_wear_21 : decode cX1_wear 21 = .ok (.iconst 1, 1) := dk_4 (dk_at dksX1_wear_0 21 rfl rfl)
theorem dX1_wear_22 : decode cX1_wear 22 = .ok (.goto 4, 3) := dk_167 0 4 (dk_at dksX1_wear_1 0 rfl rfl)
theorem dX1_wear_25 : decode cX1_wear 25 = .ok (.iconst 0, 1) := dk_3 (dk_at dksX1_wear_1 3 rfl rfl)
theorem dX1_wear_26 : decode cX1_wear 26 = .ok (.invokestatic 94, 3) := dk_184 0 94 (dk_at dksX1_wear_1 4 rfl rfl)
theorem dX1_wear_29 : decode cX1_wear 29 = .ok (.aload_n 0, 1) := dk_42 (dk_at dksX1_wear_1 7 rfl rfl)
theorem dX1_wear_30 : decode cX1_wear 30 = .ok (.getfield 39, 3) := dk_180 0 39 (dk_at dksX1_wear_1 8 rfl rfl)
theorem dX1_wear_33 : decode cX1_wear 33 = .ok (.getfield 98, 3) := dk_180 0 98 (dk_at dksX1_wear_1 11 rfl rfl)
theorem dX1_wear_36 : decode cX1_wear 36 = .ok (.iload_n 1, 1) := dk_27 (dk_at dksX1_wear_1 14 rfl rfl)
theorem dX1_wear_37 : decode cX1_wear 37 = .ok (.invokevirtual 101, 3) := dk_182 0 101 (dk_at dksX1_wear_1 15 rfl rfl)
theorem dX1_wear_40 : decode cX1_wear 40 = .ok (.checkcast 104, 3) := dk_192 0 104 (dk_at dksX1_wear_1 18 rfl rfl)
theorem dX1_wear_43 : decode cX1_wear 43 = .ok (.getfield 171, 3) := dk_180 0 171 (dk_at dksX1_wear_1 21 rfl rfl)
theorem dX1_wear_46 : decode cX1_wear 46 = .ok (.iload_n 2, 1) := dk_28 (dk_at dksX1_wear_2 0 rfl rfl)
theorem dX1_wear_47 : decode cX1_wear 47 = .ok (.iaload, 1) := dk_46 (dk_at dksX1_wear_2 1 rfl rfl)
theorem dX1_wear_48 : decode cX1_wear 48 = .ok (.ireturn, 1) := dk_172 (dk_at dksX1_wear_2 2 rfl rfl)
abbrev cX1_bearsAgain : ByteArray := prog_1_method_20_code
def yX1_bearsAgain : MethodName := ⟨RX1, "bearsAgain", "(I)I"⟩
def dkwX1_bearsAgain_0 : List UInt8 := [16, 96, 16, 12, 42, 27, 182, 0, 129, 182, 0, 142, 104, 100, 172]
abbrev dktX1_bearsAgain_0 : List UInt8 := dkwX1_bearsAgain_0 ++ []
theorem dksX1_bearsAgain_0 : cX1_bearsAgain.data.toList.drop 0 = dktX1_bearsAgain_0 := by decide +kernel
theorem dX1_bearsAgain_0 : decode cX1_bearsAgain 0 = .ok (.bipush 96, 2) := dk_16 96 (dk_at dksX1_bearsAgain_0 0 rfl rfl)
theorem dX1_bearsAgain_2 : decode cX1_bearsAgain 2 = .ok (.bipush 12, 2) := dk_16 12 (dk_at dksX1_bearsAgain_0 2 rfl rfl)
theorem dX1_bearsAgain_4 : decode cX1_bearsAgain 4 = .ok (.aload_n 0, 1) := dk_42 (dk_at dksX1_bearsAgain_0 4 rfl rfl)
theorem dX1_bearsAgain_5 : decode cX1_bearsAgain 5 = .ok (.iload_n 1, 1) := dk_27 (dk_at dksX1_bearsAgain_0 5 rfl rfl)
theorem dX1_bearsAgain_6 : decode cX1_bearsAgain 6 = .ok (.invokevirtual 129, 3) := dk_182 0 129 (dk_at dksX1_bearsAgain_0 6 rfl rfl)
theorem dX1_bearsAgain_9 : decode cX1_bearsAgain 9 = .ok (.invokevirtual 142, 3) := dk_182 0 142 (dk_at dksX1_bearsAgain_0 9 rfl rfl)
theorem dX1_bearsAgain_12 : decode cX1_bearsAgain 12 = .ok (.imul, 1) := dk_104 (dk_at dksX1_bearsAgain_0 12 rfl rfl)
theorem dX1_bearsAgain_13 : decode cX1_bearsAgain 13 = .ok (.isub, 1) := dk_100 (dk_at dksX1_bearsAgain_0 13 rfl rfl)
theorem dX1_bearsAgain_14 : decode cX1_bearsAgain 14 = .ok (.ireturn, 1) := dk_172 (dk_at dksX1_bearsAgain_0 14 rfl rfl)
abbrev cX1_lasts : ByteArray := prog_1_method_21_code
def yX1_lasts : MethodName := ⟨RX1, "lasts", "(I)I"⟩
def dkwX1_lasts_1 : List UInt8 := [184, 0, 175, 42, 180, 0, 39, 27, 182, 0, 178, 172]
abbrev dktX1_lasts_1 : List UInt8 := dkwX1_lasts_1 ++ []
def dkwX1_lasts_0 : List UInt8 := [42, 27, 182, 0, 129, 77, 42, 180, 0, 39, 27, 182, 0, 160, 158, 0, 7, 4, 167, 0, 4, 3]
abbrev dktX1_lasts_0 : List UInt8 := dkwX1_lasts_0 ++ dktX1_lasts_1
theorem dksX1_lasts_0 : cX1_lasts.data.toList.drop 0 = dktX1_lasts_0 := by decide +kernel
theorem dksX1_lasts_1 : cX1_lasts.data.toList.drop 22 = dktX1_lasts_1 := dk_seg dksX1_lasts_0 22 rfl rfl
theorem dX1_lasts_0 : decode cX1_lasts 0 = .ok (.aload_n 0, 1) := dk_42 (dk_at dksX1_lasts_0 0 rfl rfl)
theorem dX1_lasts_1 : decode cX1_lasts 1 = .ok (.iload_n 1, 1) := dk_27 (dk_at dksX1_lasts_0 1 rfl rfl)
theorem dX1_lasts_2 : decode cX1_lasts 2 = .ok (.invokevirtual 129, 3) := dk_182 0 129 (dk_at dksX1_lasts_0 2 rfl rfl)
theorem dX1_lasts_5 : decode cX1_lasts 5 = .ok (.astore_n 2, 1) := dk_77 (dk_at dksX1_lasts_0 5 rfl rfl)
theorem dX1_lasts_6 : decode cX1_lasts 6 = .ok (.aload_n 0, 1) := dk_42 (dk_at dksX1_lasts_0 6 rfl rfl)
theorem dX1_lasts_7 : decode cX1_lasts 7 = .ok (.getfield 39, 3) := dk_180 0 39 (dk_at dksX1_lasts_0 7 rfl rfl)
theorem dX1_lasts_10 : decode cX1_lasts 10 = .ok (.iload_n 1, 1) := dk_27 (dk_at dksX1_lasts_0 10 rfl rfl)
theorem dX1_lasts_11 : decode cX1_lasts 11 = .ok (.invokevirtual 160, 3) := dk_182 0 160 (dk_at dksX1_lasts_0 11 rfl rfl)
theorem dX1_lasts_14 : decode cX1_lasts 14 = .ok (.ifCond .le 7, 3) := dk_158 0 7 (dk_at dksX1_lasts_0 14 rfl rfl)
theorem dX1_lasts_17 : decode cX1_lasts 17 = .ok (.iconst 1, 1) := dk_4 (dk_at dksX1_lasts_0 17 rfl rfl)
theorem dX1_lasts_18 : decode cX1_lasts 18 = .ok (.goto 4, 3) := dk_167 0 4 (dk_at dksX1_lasts_0 18 rfl rfl)
theorem dX1_lasts_21 : decode cX1_lasts 21 = .ok (.iconst 0, 1) := dk_3 (dk_at dksX1_lasts_0 21 rfl rfl)
theorem dX1_lasts_22 : decode cX1_lasts 22 = .ok (.invokestatic 175, 3) := dk_184 0 175 (dk_at dksX1_lasts_1 0 rfl rfl)
theorem dX1_lasts_25 : decode cX1_lasts 25 = .ok (.aload_n 0, 1) := dk_42 (dk_at dksX1_lasts_1 3 rfl rfl)
theorem dX1_lasts_26 : decode cX1_lasts 26 = .ok (.getfield 39, 3) := dk_180 0 39 (dk_at dksX1_lasts_1 4 rfl rfl)
theorem dX1_lasts_29 : decode cX1_lasts 29 = .ok (.iload_n 1, 1) := dk_27 (dk_at dksX1_lasts_1 7 rfl rfl)
theorem dX1_lasts_30 : decode cX1_lasts 30 = .ok (.invokevirtual 178, 3) := dk_182 0 178 (dk_at dksX1_lasts_1 8 rfl rfl)
theorem dX1_lasts_33 : decode cX1_lasts 33 = .ok (.ireturn, 1) := dk_172 (dk_at dksX1_lasts_1 11 rfl rfl)
abbrev cX1_checkElement : ByteArray := prog_1_method_6_code
def yX1_checkElement : MethodName := ⟨RX1, "checkElement", "(Z)V"⟩
def dkwX1_checkElement_0 : List UInt8 := [26, 154, 0, 11, 187, 0, 19, 89, 183, 0, 21, 191, 177]
abbrev dktX1_checkElement_0 : List UInt8 := dkwX1_checkElement_0 ++ []
theorem dksX1_checkElement_0 : cX1_checkElement.data.toList.drop 0 = dktX1_checkElement_0 := by decide +kernel
theorem dX1_checkElement_0 : decode cX1_checkElement 0 = .ok (.iload_n 0, 1) := dk_26 (dk_at dksX1_checkElement_0 0 rfl rfl)
theorem dX1_checkElement_1 : decode cX1_checkElement 1 = .ok (.ifCond .ne 11, 3) := dk_154 0 11 (dk_at dksX1_checkElement_0 1 rfl rfl)
theorem dX1_checkElement_4 : decode cX1_checkElement 4 = .ok (.new 19, 3) := dk_187 0 19 (dk_at dksX1_checkElement_0 4 rfl rfl)
theorem dX1_checkElement_7 : decode cX1_checkElement 7 = .ok (.dup, 1) := dk_89 (dk_at dksX1_checkElement_0 7 rfl rfl)
theorem dX1_checkElement_8 : decode cX1_checkElement 8 = .ok (.invokespecial 21, 3) := dk_183 0 21 (dk_at dksX1_checkElement_0 8 rfl rfl)
theorem dX1_checkElement_11 : decode cX1_checkElement 11 = .ok (.athrow, 1) := dk_191 (dk_at dksX1_checkElement_0 11 rfl rfl)
theorem dX1_checkElement_12 : decode cX1_checkElement 12 = .ok (.return_, 1) := dk_177 (dk_at dksX1_checkElement_0 12 rfl rfl)
abbrev cX1_bestMat : ByteArray := prog_1_method_22_code
def yX1_bestMat : MethodName := ⟨RX1, "bestMat", "()I"⟩
def dkwX1_bestMat_0 : List UInt8 := [42, 180, 0, 39, 182, 0, 181, 60, 27, 2, 159, 0, 7, 4, 167, 0, 4, 3, 184, 0, 175, 27, 172]
abbrev dktX1_bestMat_0 : List UInt8 := dkwX1_bestMat_0 ++ []
theorem dksX1_bestMat_0 : cX1_bestMat.data.toList.drop 0 = dktX1_bestMat_0 := by decide +kernel
theorem dX1_bestMat_0 : decode cX1_bestMat 0 = .ok (.aload_n 0, 1) := dk_42 (dk_at dksX1_bestMat_0 0 rfl rfl)
theorem dX1_bestMat_1 : decode cX1_bestMat 1 = .ok (.getfield 39, 3) := dk_180 0 39 (dk_at dksX1_bestMat_0 1 rfl rfl)
theorem dX1_bestMat_4 : decode cX1_bestMat 4 = .ok (.invokevirtual 181, 3) := dk_182 0 181 (dk_at dksX1_bestMat_0 4 rfl rfl)
theorem dX1_bestMat_7 : decode cX1_bestMat 7 = .ok (.istore_n 1, 1) := dk_60 (dk_at dksX1_bestMat_0 7 rfl rfl)
theorem dX1_bestMat_8 : decode cX1_bestMat 8 = .ok (.iload_n 1, 1) := dk_27 (dk_at dksX1_bestMat_0 8 rfl rfl)
theorem dX1_bestMat_9 : decode cX1_bestMat 9 = .ok (.iconst (-1), 1) := dk_2 (dk_at dksX1_bestMat_0 9 rfl rfl)
theorem dX1_bestMat_10 : decode cX1_bestMat 10 = .ok (.if_icmp .eq 7, 3) := dk_159 0 7 (dk_at dksX1_bestMat_0 10 rfl rfl)
theorem dX1_bestMat_13 : decode cX1_bestMat 13 = .ok (.iconst 1, 1) := dk_4 (dk_at dksX1_bestMat_0 13 rfl rfl)
theorem dX1_bestMat_14 : decode cX1_bestMat 14 = .ok (.goto 4, 3) := dk_167 0 4 (dk_at dksX1_bestMat_0 14 rfl rfl)
theorem dX1_bestMat_17 : decode cX1_bestMat 17 = .ok (.iconst 0, 1) := dk_3 (dk_at dksX1_bestMat_0 17 rfl rfl)
theorem dX1_bestMat_18 : decode cX1_bestMat 18 = .ok (.invokestatic 175, 3) := dk_184 0 175 (dk_at dksX1_bestMat_0 18 rfl rfl)
theorem dX1_bestMat_21 : decode cX1_bestMat 21 = .ok (.iload_n 1, 1) := dk_27 (dk_at dksX1_bestMat_0 21 rfl rfl)
theorem dX1_bestMat_22 : decode cX1_bestMat 22 = .ok (.ireturn, 1) := dk_172 (dk_at dksX1_bestMat_0 22 rfl rfl)
abbrev cX1_jumper : ByteArray := prog_1_method_23_code
def yX1_jumper : MethodName := ⟨RX1, "jumper", "(II)I"⟩
def dkwX1_jumper_1 : List UInt8 := [3, 184, 0, 136, 42, 27, 28, 186, 0, 184, 0, 0, 182, 0, 122, 172]
abbrev dktX1_jumper_1 : List UInt8 := dkwX1_jumper_1 ++ []
def dkwX1_jumper_0 : List UInt8 := [27, 16, 10, 16, 99, 184, 0, 3, 153, 0, 16, 28, 3, 7, 184, 0, 3, 153, 0, 7, 4, 167, 0, 4]
abbrev dktX1_jumper_0 : List UInt8 := dkwX1_jumper_0 ++ dktX1_jumper_1
theorem dksX1_jumper_0 : cX1_jumper.data.toList.drop 0 = dktX1_jumper_0 := by decide +kernel
theorem dksX1_jumper_1 : cX1_jumper.data.toList.drop 24 = dktX1_jumper_1 := dk_seg dksX1_jumper_0 24 rfl rfl
theorem dX1_jumper_0 : decode cX1_jumper 0 = .ok (.iload_n 1, 1) := dk_27 (dk_at dksX1_jumper_0 0 rfl rfl)
theorem dX1_jumper_1 : decode cX1_jumper 1 = .ok (.bipush 10, 2) := dk_16 10 (dk_at dksX1_jumper_0 1 rfl rfl)
theorem dX1_jumper_3 : decode cX1_jumper 3 = .ok (.bipush 99, 2) := dk_16 99 (dk_at dksX1_jumper_0 3 rfl rfl)
theorem dX1_jumper_5 : decode cX1_jumper 5 = .ok (.invokestatic 3, 3) := dk_184 0 3 (dk_at dksX1_jumper_0 5 rfl rfl)
theorem dX1_jumper_8 : decode cX1_jumper 8 = .ok (.ifCond .eq 16, 3) := dk_153 0 16 (dk_at dksX1_jumper_0 8 rfl rfl)
theorem dX1_jumper_11 : decode cX1_jumper 11 = .ok (.iload_n 2, 1) := dk_28 (dk_at dksX1_jumper_0 11 rfl rfl)
theorem dX1_jumper_12 : decode cX1_jumper 12 = .ok (.iconst 0, 1) := dk_3 (dk_at dksX1_jumper_0 12 rfl rfl)
theorem dX1_jumper_13 : decode cX1_jumper 13 = .ok (.iconst 4, 1) := dk_7 (dk_at dksX1_jumper_0 13 rfl rfl)
theorem dX1_jumper_14 : decode cX1_jumper 14 = .ok (.invokestatic 3, 3) := dk_184 0 3 (dk_at dksX1_jumper_0 14 rfl rfl)
theorem dX1_jumper_17 : decode cX1_jumper 17 = .ok (.ifCond .eq 7, 3) := dk_153 0 7 (dk_at dksX1_jumper_0 17 rfl rfl)
theorem dX1_jumper_20 : decode cX1_jumper 20 = .ok (.iconst 1, 1) := dk_4 (dk_at dksX1_jumper_0 20 rfl rfl)
theorem dX1_jumper_21 : decode cX1_jumper 21 = .ok (.goto 4, 3) := dk_167 0 4 (dk_at dksX1_jumper_0 21 rfl rfl)
theorem dX1_jumper_24 : decode cX1_jumper 24 = .ok (.iconst 0, 1) := dk_3 (dk_at dksX1_jumper_1 0 rfl rfl)
theorem dX1_jumper_25 : decode cX1_jumper 25 = .ok (.invokestatic 136, 3) := dk_184 0 136 (dk_at dksX1_jumper_1 1 rfl rfl)
theorem dX1_jumper_28 : decode cX1_jumper 28 = .ok (.aload_n 0, 1) := dk_42 (dk_at dksX1_jumper_1 4 rfl rfl)
theorem dX1_jumper_29 : decode cX1_jumper 29 = .ok (.iload_n 1, 1) := dk_27 (dk_at dksX1_jumper_1 5 rfl rfl)
theorem dX1_jumper_30 : decode cX1_jumper 30 = .ok (.iload_n 2, 1) := dk_28 (dk_at dksX1_jumper_1 6 rfl rfl)
theorem dX1_jumper_31 : decode cX1_jumper 31 = .ok (.invokedynamic 184, 5) := by decide +kernel
theorem dX1_jumper_36 : decode cX1_jumper 36 = .ok (.invokevirtual 122, 3) := dk_182 0 122 (dk_at dksX1_jumper_1 12 rfl rfl)
theorem dX1_jumper_39 : decode cX1_jumper 39 = .ok (.ireturn, 1) := dk_172 (dk_at dksX1_jumper_1 15 rfl rfl)
abbrev cX1_lambda_jumper_4 : ByteArray := prog_1_method_68_code
def yX1_lambda_jumper_4 : MethodName := ⟨RX1, "lambda$jumper$4", "(IILJumpHall$Hall;)I"⟩
def dkwX1_lambda_jumper_4_0 : List UInt8 := [44, 26, 27, 2, 182, 1, 191, 172]
abbrev dktX1_lambda_jumper_4_0 : List UInt8 := dkwX1_lambda_jumper_4_0 ++ []
theorem dksX1_lambda_jumper_4_0 : cX1_lambda_jumper_4.data.toList.drop 0 = dktX1_lambda_jumper_4_0 := by decide +kernel
theorem dX1_lambda_jumper_4_0 : decode cX1_lambda_jumper_4 0 = .ok (.aload_n 2, 1) := dk_44 (dk_at dksX1_lambda_jumper_4_0 0 rfl rfl)
theorem dX1_lambda_jumper_4_1 : decode cX1_lambda_jumper_4 1 = .ok (.iload_n 0, 1) := dk_26 (dk_at dksX1_lambda_jumper_4_0 1 rfl rfl)
theorem dX1_lambda_jumper_4_2 : decode cX1_lambda_jumper_4 2 = .ok (.iload_n 1, 1) := dk_27 (dk_at dksX1_lambda_jumper_4_0 2 rfl rfl)
theorem dX1_lambda_jumper_4_3 : decode cX1_lambda_jumper_4 3 = .ok (.iconst (-1), 1) := dk_2 (dk_at dksX1_lambda_jumper_4_0 3 rfl rfl)
theorem dX1_lambda_jumper_4_4 : decode cX1_lambda_jumper_4 4 = .ok (.invokevirtual 447, 3) := dk_182 1 191 (dk_at dksX1_lambda_jumper_4_0 4 rfl rfl)
theorem dX1_lambda_jumper_4_7 : decode cX1_lambda_jumper_4 7 = .ok (.ireturn, 1) := dk_172 (dk_at dksX1_lambda_jumper_4_0 7 rfl rfl)
abbrev cX1_up : ByteArray := prog_1_method_24_code
def yX1_up : MethodName := ⟨RX1, "up", "(II)I"⟩
def dkwX1_up_1 : List UInt8 := [167, 0, 4, 3, 184, 0, 94, 42, 27, 28, 186, 0, 185, 0, 0, 182, 0, 122, 172]
abbrev dktX1_up_1 : List UInt8 := dkwX1_up_1 ++ []
def dkwX1_up_0 : List UInt8 := [42, 180, 0, 39, 27, 182, 0, 106, 153, 0, 18, 42, 180, 0, 39, 28, 182, 0, 90, 153, 0, 7, 4]
abbrev dktX1_up_0 : List UInt8 := dkwX1_up_0 ++ dktX1_up_1
theorem dksX1_up_0 : cX1_up.data.toList.drop 0 = dktX1_up_0 := by decide +kernel
theorem dksX1_up_1 : cX1_up.data.toList.drop 23 = dktX1_up_1 := dk_seg dksX1_up_0 23 rfl rfl
theorem dX1_up_0 : decode cX1_up 0 = .ok (.aload_n 0, 1) := dk_42 (dk_at dksX1_up_0 0 rfl rfl)
theorem dX1_up_1 : decode cX1_up 1 = .ok (.getfield 39, 3) := dk_180 0 39 (dk_at dksX1_up_0 1 rfl rfl)
theorem dX1_up_4 : decode cX1_up 4 = .ok (.iload_n 1, 1) := dk_27 (dk_at dksX1_up_0 4 rfl rfl)
theorem dX1_up_5 : decode cX1_up 5 = .ok (.invokevirtual 106, 3) := dk_182 0 106 (dk_at dksX1_up_0 5 rfl rfl)
theorem dX1_up_8 : decode cX1_up 8 = .ok (.ifCond .eq 18, 3) := dk_153 0 18 (dk_at dksX1_up_0 8 rfl rfl)
theorem dX1_up_11 : decode cX1_up 11 = .ok (.aload_n 0, 1) := dk_42 (dk_at dksX1_up_0 11 rfl rfl)
theorem dX1_up_12 : decode cX1_up 12 = .ok (.getfield 39, 3) := dk_180 0 39 (dk_at dksX1_up_0 12 rfl rfl)
theorem dX1_up_15 : decode cX1_up 15 = .ok (.iload_n 2, 1) := dk_28 (dk_at dksX1_up_0 15 rfl rfl)
theorem dX1_up_16 : decode cX1_up 16 = .ok (.invokevirtual 90, 3) := dk_182 0 90 (dk_at dksX1_up_0 16 rfl rfl)
theorem dX1_up_19 : decode cX1_up 19 = .ok (.ifCond .eq 7, 3) := dk_153 0 7 (dk_at dksX1_up_0 19 rfl rfl)
theorem dX1_up_22 : decode cX1_up 22 = .ok (.iconst 1, 1) := dk_4 (dk_at dksX1_up_0 22 rfl rfl)
theorem dX1_up_23 : decode cX1_up 23 = .ok (.goto 4, 3) := dk_167 0 4 (dk_at dksX1_up_1 0 rfl rfl)
theorem dX1_up_26 : decode cX1_up 26 = .ok (.iconst 0, 1) := dk_3 (dk_at dksX1_up_1 3 rfl rfl)
theorem dX1_up_27 : decode cX1_up 27 = .ok (.invokestatic 94, 3) := dk_184 0 94 (dk_at dksX1_up_1 4 rfl rfl)
theorem dX1_up_30 : decode cX1_up 30 = .ok (.aload_n 0, 1) := dk_42 (dk_at dksX1_up_1 7 rfl rfl)
theorem dX1_up_31 : decode cX1_up 31 = .ok (.iload_n 1, 1) := dk_27 (dk_at dksX1_up_1 8 rfl rfl)
theorem dX1_up_32 : decode cX1_up 32 = .ok (.iload_n 2, 1) := dk_28 (dk_at dksX1_up_1 9 rfl rfl)
theorem dX1_up_33 : decode cX1_up 33 = .ok (.invokedynamic 185, 5) := by decide +kernel
theorem dX1_up_38 : decode cX1_up 38 = .ok (.invokevirtual 122, 3) := dk_182 0 122 (dk_at dksX1_up_1 15 rfl rfl)
theorem dX1_up_41 : decode cX1_up 41 = .ok (.ireturn, 1) := dk_172 (dk_at dksX1_up_1 18 rfl rfl)
abbrev cX1_lambda_up_5 : ByteArray := prog_1_method_67_code
def yX1_lambda_up_5 : MethodName := ⟨RX1, "lambda$up$5", "(IILJumpHall$Hall;)I"⟩
def dkwX1_lambda_up_5_0 : List UInt8 := [44, 26, 27, 182, 1, 188, 172]
abbrev dktX1_lambda_up_5_0 : List UInt8 := dkwX1_lambda_up_5_0 ++ []
theorem dksX1_lambda_up_5_0 : cX1_lambda_up_5.data.toList.drop 0 = dktX1_lambda_up_5_0 := by decide +kernel
theorem dX1_lambda_up_5_0 : decode cX1_lambda_up_5 0 = .ok (.aload_n 2, 1) := dk_44 (dk_at dksX1_lambda_up_5_0 0 rfl rfl)
theorem dX1_lambda_up_5_1 : decode cX1_lambda_up_5 1 = .ok (.iload_n 0, 1) := dk_26 (dk_at dksX1_lambda_up_5_0 1 rfl rfl)
theorem dX1_lambda_up_5_2 : decode cX1_lambda_up_5 2 = .ok (.iload_n 1, 1) := dk_27 (dk_at dksX1_lambda_up_5_0 2 rfl rfl)
theorem dX1_lambda_up_5_3 : decode cX1_lambda_up_5 3 = .ok (.invokevirtual 444, 3) := dk_182 1 188 (dk_at dksX1_lambda_up_5_0 3 rfl rfl)
theorem dX1_lambda_up_5_6 : decode cX1_lambda_up_5 6 = .ok (.ireturn, 1) := dk_172 (dk_at dksX1_lambda_up_5_0 6 rfl rfl)
abbrev cX1_down : ByteArray := prog_1_method_25_code
def yX1_down : MethodName := ⟨RX1, "down", "(I)I"⟩
def dkwX1_down_0 : List UInt8 := [42, 27, 182, 0, 186, 77, 42, 27, 186, 0, 190, 0, 0, 182, 0, 122, 172]
abbrev dktX1_down_0 : List UInt8 := dkwX1_down_0 ++ []
theorem dksX1_down_0 : cX1_down.data.toList.drop 0 = dktX1_down_0 := by decide +kernel
theorem dX1_down_0 : decode cX1_down 0 = .ok (.aload_n 0, 1) := dk_42 (dk_at dksX1_down_0 0 rfl rfl)
theorem dX1_down_1 : decode cX1_down 1 = .ok (.iload_n 1, 1) := dk_27 (dk_at dksX1_down_0 1 rfl rfl)
theorem dX1_down_2 : decode cX1_down 2 = .ok (.invokevirtual 186, 3) := dk_182 0 186 (dk_at dksX1_down_0 2 rfl rfl)
theorem dX1_down_5 : decode cX1_down 5 = .ok (.astore_n 2, 1) := dk_77 (dk_at dksX1_down_0 5 rfl rfl)
theorem dX1_down_6 : decode cX1_down 6 = .ok (.aload_n 0, 1) := dk_42 (dk_at dksX1_down_0 6 rfl rfl)
theorem dX1_down_7 : decode cX1_down 7 = .ok (.iload_n 1, 1) := dk_27 (dk_at dksX1_down_0 7 rfl rfl)
theorem dX1_down_8 : decode cX1_down 8 = .ok (.invokedynamic 190, 5) := by decide +kernel
theorem dX1_down_13 : decode cX1_down 13 = .ok (.invokevirtual 122, 3) := dk_182 0 122 (dk_at dksX1_down_0 13 rfl rfl)
theorem dX1_down_16 : decode cX1_down 16 = .ok (.ireturn, 1) := dk_172 (dk_at dksX1_down_0 16 rfl rfl)
abbrev cX1_jumperAt : ByteArray := prog_1_method_13_code
def yX1_jumperAt : MethodName := ⟨RX1, "jumperAt", "(I)LJumpHall$Jumper;"⟩
def dkwX1_jumperAt_1 : List UInt8 := [192, 0, 112, 176]
abbrev dktX1_jumperAt_1 : List UInt8 := dkwX1_jumperAt_1 ++ []
def dkwX1_jumperAt_0 : List UInt8 := [42, 180, 0, 39, 27, 182, 0, 106, 184, 0, 94, 42, 180, 0, 39, 180, 0, 109, 27, 182, 0, 101]
abbrev dktX1_jumperAt_0 : List UInt8 := dkwX1_jumperAt_0 ++ dktX1_jumperAt_1
theorem dksX1_jumperAt_0 : cX1_jumperAt.data.toList.drop 0 = dktX1_jumperAt_0 := by decide +kernel
theorem dksX1_jumperAt_1 : cX1_jumperAt.data.toList.drop 22 = dktX1_jumperAt_1 := dk_seg dksX1_jumperAt_0 22 rfl rfl
theorem dX1_jumperAt_0 : decode cX1_jumperAt 0 = .ok (.aload_n 0, 1) := dk_42 (dk_at dksX1_jumperAt_0 0 rfl rfl)
theorem dX1_jumperAt_1 : decode cX1_jumperAt 1 = .ok (.getfield 39, 3) := dk_180 0 39 (dk_at dksX1_jumperAt_0 1 rfl rfl)
theorem dX1_jumperAt_4 : decode cX1_jumperAt 4 = .ok (.iload_n 1, 1) := dk_27 (dk_at dksX1_jumperAt_0 4 rfl rfl)
theorem dX1_jumperAt_5 : decode cX1_jumperAt 5 = .ok (.invokevirtual 106, 3) := dk_182 0 106 (dk_at dksX1_jumperAt_0 5 rfl rfl)
theorem dX1_jumperAt_8 : decode cX1_jumperAt 8 = .ok (.invokestatic 94, 3) := dk_184 0 94 (dk_at dksX1_jumperAt_0 8 rfl rfl)
theorem dX1_jumperAt_11 : decode cX1_jumperAt 11 = .ok (.aload_n 0, 1) := dk_42 (dk_at dksX1_jumperAt_0 11 rfl rfl)
theorem dX1_jumperAt_12 : decode cX1_jumperAt 12 = .ok (.getfield 39, 3) := dk_180 0 39 (dk_at dksX1_jumperAt_0 12 rfl rfl)
theorem dX1_jumperAt_15 : decode cX1_jumperAt 15 = .ok (.getfield 109, 3) := dk_180 0 109 (dk_at dksX1_jumperAt_0 15 rfl rfl)
theorem dX1_jumperAt_18 : decode cX1_jumperAt 18 = .ok (.iload_n 1, 1) := dk_27 (dk_at dksX1_jumperAt_0 18 rfl rfl)
theorem dX1_jumperAt_19 : decode cX1_jumperAt 19 = .ok (.invokevirtual 101, 3) := dk_182 0 101 (dk_at dksX1_jumperAt_0 19 rfl rfl)
theorem dX1_jumperAt_22 : decode cX1_jumperAt 22 = .ok (.checkcast 112, 3) := dk_192 0 112 (dk_at dksX1_jumperAt_1 0 rfl rfl)
theorem dX1_jumperAt_25 : decode cX1_jumperAt 25 = .ok (.areturn, 1) := dk_176 (dk_at dksX1_jumperAt_1 3 rfl rfl)
abbrev cX1_lambda_down_6 : ByteArray := prog_1_method_66_code
def yX1_lambda_down_6 : MethodName := ⟨RX1, "lambda$down$6", "(ILJumpHall$Hall;)I"⟩
def dkwX1_lambda_down_6_0 : List UInt8 := [43, 26, 182, 1, 185, 172]
abbrev dktX1_lambda_down_6_0 : List UInt8 := dkwX1_lambda_down_6_0 ++ []
theorem dksX1_lambda_down_6_0 : cX1_lambda_down_6.data.toList.drop 0 = dktX1_lambda_down_6_0 := by decide +kernel
theorem dX1_lambda_down_6_0 : decode cX1_lambda_down_6 0 = .ok (.aload_n 1, 1) := dk_43 (dk_at dksX1_lambda_down_6_0 0 rfl rfl)
theorem dX1_lambda_down_6_1 : decode cX1_lambda_down_6 1 = .ok (.iload_n 0, 1) := dk_26 (dk_at dksX1_lambda_down_6_0 1 rfl rfl)
theorem dX1_lambda_down_6_2 : decode cX1_lambda_down_6 2 = .ok (.invokevirtual 441, 3) := dk_182 1 185 (dk_at dksX1_lambda_down_6_0 2 rfl rfl)
theorem dX1_lambda_down_6_5 : decode cX1_lambda_down_6 5 = .ok (.ireturn, 1) := dk_172 (dk_at dksX1_lambda_down_6_0 5 rfl rfl)
abbrev cX1_leave : ByteArray := prog_1_method_26_code
def yX1_leave : MethodName := ⟨RX1, "leave", "(I)I"⟩
def dkwX1_leave_0 : List UInt8 := [42, 27, 182, 0, 186, 77, 42, 27, 186, 0, 191, 0, 0, 182, 0, 122, 172]
abbrev dktX1_leave_0 : List UInt8 := dkwX1_leave_0 ++ []
theorem dksX1_leave_0 : cX1_leave.data.toList.drop 0 = dktX1_leave_0 := by decide +kernel
theorem dX1_leave_0 : decode cX1_leave 0 = .ok (.aload_n 0, 1) := dk_42 (dk_at dksX1_leave_0 0 rfl rfl)
theorem dX1_leave_1 : decode cX1_leave 1 = .ok (.iload_n 1, 1) := dk_27 (dk_at dksX1_leave_0 1 rfl rfl)
theorem dX1_leave_2 : decode cX1_leave 2 = .ok (.invokevirtual 186, 3) := dk_182 0 186 (dk_at dksX1_leave_0 2 rfl rfl)
theorem dX1_leave_5 : decode cX1_leave 5 = .ok (.astore_n 2, 1) := dk_77 (dk_at dksX1_leave_0 5 rfl rfl)
theorem dX1_leave_6 : decode cX1_leave 6 = .ok (.aload_n 0, 1) := dk_42 (dk_at dksX1_leave_0 6 rfl rfl)
theorem dX1_leave_7 : decode cX1_leave 7 = .ok (.iload_n 1, 1) := dk_27 (dk_at dksX1_leave_0 7 rfl rfl)
theorem dX1_leave_8 : decode cX1_leave 8 = .ok (.invokedynamic 191, 5) := by decide +kernel
theorem dX1_leave_13 : decode cX1_leave 13 = .ok (.invokevirtual 122, 3) := dk_182 0 122 (dk_at dksX1_leave_0 13 rfl rfl)
theorem dX1_leave_16 : decode cX1_leave 16 = .ok (.ireturn, 1) := dk_172 (dk_at dksX1_leave_0 16 rfl rfl)
abbrev cX1_lambda_leave_7 : ByteArray := prog_1_method_65_code
def yX1_lambda_leave_7 : MethodName := ⟨RX1, "lambda$leave$7", "(ILJumpHall$Hall;)I"⟩
def dkwX1_lambda_leave_7_0 : List UInt8 := [43, 26, 182, 1, 182, 172]
abbrev dktX1_lambda_leave_7_0 : List UInt8 := dkwX1_lambda_leave_7_0 ++ []
theorem dksX1_lambda_leave_7_0 : cX1_lambda_leave_7.data.toList.drop 0 = dktX1_lambda_leave_7_0 := by decide +kernel
theorem dX1_lambda_leave_7_0 : decode cX1_lambda_leave_7 0 = .ok (.aload_n 1, 1) := dk_43 (dk_at dksX1_lambda_leave_7_0 0 rfl rfl)
theorem dX1_lambda_leave_7_1 : decode cX1_lambda_leave_7 1 = .ok (.iload_n 0, 1) := dk_26 (dk_at dksX1_lambda_leave_7_0 1 rfl rfl)
theorem dX1_lambda_leave_7_2 : decode cX1_lambda_leave_7 2 = .ok (.invokevirtual 438, 3) := dk_182 1 182 (dk_at dksX1_lambda_leave_7_0 2 rfl rfl)
theorem dX1_lambda_leave_7_5 : decode cX1_lambda_leave_7 5 = .ok (.ireturn, 1) := dk_172 (dk_at dksX1_lambda_leave_7_0 5 rfl rfl)
abbrev cX1_stock : ByteArray := prog_1_method_27_code
def yX1_stock : MethodName := ⟨RX1, "stock", "(III)I"⟩
def dkwX1_stock_1 : List UInt8 := [184, 0, 136, 42, 27, 28, 29, 186, 0, 196, 0, 0, 182, 0, 122, 172]
abbrev dktX1_stock_1 : List UInt8 := dkwX1_stock_1 ++ []
def dkwX1_stock_0 : List UInt8 := [27, 28, 184, 0, 192, 153, 0, 17, 29, 4, 16, 99, 184, 0, 3, 153, 0, 7, 4, 167, 0, 4, 3]
abbrev dktX1_stock_0 : List UInt8 := dkwX1_stock_0 ++ dktX1_stock_1
theorem dksX1_stock_0 : cX1_stock.data.toList.drop 0 = dktX1_stock_0 := by decide +kernel
theorem dksX1_stock_1 : cX1_stock.data.toList.drop 23 = dktX1_stock_1 := dk_seg dksX1_stock_0 23 rfl rfl
theorem dX1_stock_0 : decode cX1_stock 0 = .ok (.iload_n 1, 1) := dk_27 (dk_at dksX1_stock_0 0 rfl rfl)
theorem dX1_stock_1 : decode cX1_stock 1 = .ok (.iload_n 2, 1) := dk_28 (dk_at dksX1_stock_0 1 rfl rfl)
theorem dX1_stock_2 : decode cX1_stock 2 = .ok (.invokestatic 192, 3) := dk_184 0 192 (dk_at dksX1_stock_0 2 rfl rfl)
theorem dX1_stock_5 : decode cX1_stock 5 = .ok (.ifCond .eq 17, 3) := dk_153 0 17 (dk_at dksX1_stock_0 5 rfl rfl)
theorem dX1_stock_8 : decode cX1_stock 8 = .ok (.iload_n 3, 1) := dk_29 (dk_at dksX1_stock_0 8 rfl rfl)
theorem dX1_stock_9 : decode cX1_stock 9 = .ok (.iconst 1, 1) := dk_4 (dk_at dksX1_stock_0 9 rfl rfl)
theorem dX1_stock_10 : decode cX1_stock 10 = .ok (.bipush 99, 2) := dk_16 99 (dk_at dksX1_stock_0 10 rfl rfl)
theorem dX1_stock_12 : decode cX1_stock 12 = .ok (.invokestatic 3, 3) := dk_184 0 3 (dk_at dksX1_stock_0 12 rfl rfl)
theorem dX1_stock_15 : decode cX1_stock 15 = .ok (.ifCond .eq 7, 3) := dk_153 0 7 (dk_at dksX1_stock_0 15 rfl rfl)
theorem dX1_stock_18 : decode cX1_stock 18 = .ok (.iconst 1, 1) := dk_4 (dk_at dksX1_stock_0 18 rfl rfl)
theorem dX1_stock_19 : decode cX1_stock 19 = .ok (.goto 4, 3) := dk_167 0 4 (dk_at dksX1_stock_0 19 rfl rfl)
theorem dX1_stock_22 : decode cX1_stock 22 = .ok (.iconst 0, 1) := dk_3 (dk_at dksX1_stock_0 22 rfl rfl)
theorem dX1_stock_23 : decode cX1_stock 23 = .ok (.invokestatic 136, 3) := dk_184 0 136 (dk_at dksX1_stock_1 0 rfl rfl)
theorem dX1_stock_26 : decode cX1_stock 26 = .ok (.aload_n 0, 1) := dk_42 (dk_at dksX1_stock_1 3 rfl rfl)
theorem dX1_stock_27 : decode cX1_stock 27 = .ok (.iload_n 1, 1) := dk_27 (dk_at dksX1_stock_1 4 rfl rfl)
theorem dX1_stock_28 : decode cX1_stock 28 = .ok (.iload_n 2, 1) := dk_28 (dk_at dksX1_stock_1 5 rfl rfl)
theorem dX1_stock_29 : decode cX1_stock 29 = .ok (.iload_n 3, 1) := dk_29 (dk_at dksX1_stock_1 6 rfl rfl)
theorem dX1_stock_30 : decode cX1_stock 30 = .ok (.invokedynamic 196, 5) := by decide +kernel
theorem dX1_stock_35 : decode cX1_stock 35 = .ok (.invokevirtual 122, 3) := dk_182 0 122 (dk_at dksX1_stock_1 12 rfl rfl)
theorem dX1_stock_38 : decode cX1_stock 38 = .ok (.ireturn, 1) := dk_172 (dk_at dksX1_stock_1 15 rfl rfl)
abbrev cX1_areSocks : ByteArray := prog_1_method_2_code
def yX1_areSocks : MethodName := ⟨RX1, "areSocks", "(II)Z"⟩
def dkwX1_areSocks_0 : List UInt8 := [26, 3, 7, 184, 0, 3, 153, 0, 16, 27, 3, 5, 184, 0, 3, 153, 0, 7, 4, 167, 0, 4, 3, 172]
abbrev dktX1_areSocks_0 : List UInt8 := dkwX1_areSocks_0 ++ []
theorem dksX1_areSocks_0 : cX1_areSocks.data.toList.drop 0 = dktX1_areSocks_0 := by decide +kernel
theorem dX1_areSocks_0 : decode cX1_areSocks 0 = .ok (.iload_n 0, 1) := dk_26 (dk_at dksX1_areSocks_0 0 rfl rfl)
theorem dX1_areSocks_1 : decode cX1_areSocks 1 = .ok (.iconst 0, 1) := dk_3 (dk_at dksX1_areSocks_0 1 rfl rfl)
theorem dX1_areSocks_2 : decode cX1_areSocks 2 = .ok (.iconst 4, 1) := dk_7 (dk_at dksX1_areSocks_0 2 rfl rfl)
theorem dX1_areSocks_3 : decode cX1_areSocks 3 = .ok (.invokestatic 3, 3) := dk_184 0 3 (dk_at dksX1_areSocks_0 3 rfl rfl)
theorem dX1_areSocks_6 : decode cX1_areSocks 6 = .ok (.ifCond .eq 16, 3) := dk_153 0 16 (dk_at dksX1_areSocks_0 6 rfl rfl)
theorem dX1_areSocks_9 : decode cX1_areSocks 9 = .ok (.iload_n 1, 1) := dk_27 (dk_at dksX1_areSocks_0 9 rfl rfl)
theorem dX1_areSocks_10 : decode cX1_areSocks 10 = .ok (.iconst 0, 1) := dk_3 (dk_at dksX1_areSocks_0 10 rfl rfl)
theorem dX1_areSocks_11 : decode cX1_areSocks 11 = .ok (.iconst 2, 1) := dk_5 (dk_at dksX1_areSocks_0 11 rfl rfl)
theorem dX1_areSocks_12 : decode cX1_areSocks 12 = .ok (.invokestatic 3, 3) := dk_184 0 3 (dk_at dksX1_areSocks_0 12 rfl rfl)
theorem dX1_areSocks_15 : decode cX1_areSocks 15 = .ok (.ifCond .eq 7, 3) := dk_153 0 7 (dk_at dksX1_areSocks_0 15 rfl rfl)
theorem dX1_areSocks_18 : decode cX1_areSocks 18 = .ok (.iconst 1, 1) := dk_4 (dk_at dksX1_areSocks_0 18 rfl rfl)
theorem dX1_areSocks_19 : decode cX1_areSocks 19 = .ok (.goto 4, 3) := dk_167 0 4 (dk_at dksX1_areSocks_0 19 rfl rfl)
theorem dX1_areSocks_22 : decode cX1_areSocks 22 = .ok (.iconst 0, 1) := dk_3 (dk_at dksX1_areSocks_0 22 rfl rfl)
theorem dX1_areSocks_23 : decode cX1_areSocks 23 = .ok (.ireturn, 1) := dk_172 (dk_at dksX1_areSocks_0 23 rfl rfl)
abbrev cX1_lambda_stock_8 : ByteArray := prog_1_method_64_code
def yX1_lambda_stock_8 : MethodName := ⟨RX1, "lambda$stock$8", "(IIILJumpHall$Hall;)I"⟩
def dkwX1_lambda_stock_8_0 : List UInt8 := [45, 180, 0, 224, 187, 0, 227, 89, 26, 27, 183, 0, 229, 28, 182, 1, 178, 172]
abbrev dktX1_lambda_stock_8_0 : List UInt8 := dkwX1_lambda_stock_8_0 ++ []
theorem dksX1_lambda_stock_8_0 : cX1_lambda_stock_8.data.toList.drop 0 = dktX1_lambda_stock_8_0 := by decide +kernel
theorem dX1_lambda_stock_8_0 : decode cX1_lambda_stock_8 0 = .ok (.aload_n 3, 1) := dk_45 (dk_at dksX1_lambda_stock_8_0 0 rfl rfl)
theorem dX1_lambda_stock_8_1 : decode cX1_lambda_stock_8 1 = .ok (.getfield 224, 3) := dk_180 0 224 (dk_at dksX1_lambda_stock_8_0 1 rfl rfl)
theorem dX1_lambda_stock_8_4 : decode cX1_lambda_stock_8 4 = .ok (.new 227, 3) := dk_187 0 227 (dk_at dksX1_lambda_stock_8_0 4 rfl rfl)
theorem dX1_lambda_stock_8_7 : decode cX1_lambda_stock_8 7 = .ok (.dup, 1) := dk_89 (dk_at dksX1_lambda_stock_8_0 7 rfl rfl)
theorem dX1_lambda_stock_8_8 : decode cX1_lambda_stock_8 8 = .ok (.iload_n 0, 1) := dk_26 (dk_at dksX1_lambda_stock_8_0 8 rfl rfl)
theorem dX1_lambda_stock_8_9 : decode cX1_lambda_stock_8 9 = .ok (.iload_n 1, 1) := dk_27 (dk_at dksX1_lambda_stock_8_0 9 rfl rfl)
theorem dX1_lambda_stock_8_10 : decode cX1_lambda_stock_8 10 = .ok (.invokespecial 229, 3) := dk_183 0 229 (dk_at dksX1_lambda_stock_8_0 10 rfl rfl)
theorem dX1_lambda_stock_8_13 : decode cX1_lambda_stock_8 13 = .ok (.iload_n 2, 1) := dk_28 (dk_at dksX1_lambda_stock_8_0 13 rfl rfl)
theorem dX1_lambda_stock_8_14 : decode cX1_lambda_stock_8 14 = .ok (.invokevirtual 434, 3) := dk_182 1 178 (dk_at dksX1_lambda_stock_8_0 14 rfl rfl)
theorem dX1_lambda_stock_8_17 : decode cX1_lambda_stock_8 17 = .ok (.ireturn, 1) := dk_172 (dk_at dksX1_lambda_stock_8_0 17 rfl rfl)
abbrev cX1_sell : ByteArray := prog_1_method_28_code
def yX1_sell : MethodName := ⟨RX1, "sell", "(II)I"⟩
def dkwX1_sell_1 : List UInt8 := [182, 0, 122, 172]
abbrev dktX1_sell_1 : List UInt8 := dkwX1_sell_1 ++ []
def dkwX1_sell_0 : List UInt8 := [42, 27, 182, 0, 186, 78, 28, 3, 5, 184, 0, 3, 184, 0, 136, 42, 27, 28, 186, 0, 199, 0, 0]
abbrev dktX1_sell_0 : List UInt8 := dkwX1_sell_0 ++ dktX1_sell_1
theorem dksX1_sell_0 : cX1_sell.data.toList.drop 0 = dktX1_sell_0 := by decide +kernel
theorem dksX1_sell_1 : cX1_sell.data.toList.drop 23 = dktX1_sell_1 := dk_seg dksX1_sell_0 23 rfl rfl
theorem dX1_sell_0 : decode cX1_sell 0 = .ok (.aload_n 0, 1) := dk_42 (dk_at dksX1_sell_0 0 rfl rfl)
theorem dX1_sell_1 : decode cX1_sell 1 = .ok (.iload_n 1, 1) := dk_27 (dk_at dksX1_sell_0 1 rfl rfl)
theorem dX1_sell_2 : decode cX1_sell 2 = .ok (.invokevirtual 186, 3) := dk_182 0 186 (dk_at dksX1_sell_0 2 rfl rfl)
theorem dX1_sell_5 : decode cX1_sell 5 = .ok (.astore_n 3, 1) := dk_78 (dk_at dksX1_sell_0 5 rfl rfl)
theorem dX1_sell_6 : decode cX1_sell 6 = .ok (.iload_n 2, 1) := dk_28 (dk_at dksX1_sell_0 6 rfl rfl)
theorem dX1_sell_7 : decode cX1_sell 7 = .ok (.iconst 0, 1) := dk_3 (dk_at dksX1_sell_0 7 rfl rfl)
theorem dX1_sell_8 : decode cX1_sell 8 = .ok (.iconst 2, 1) := dk_5 (dk_at dksX1_sell_0 8 rfl rfl)
theorem dX1_sell_9 : decode cX1_sell 9 = .ok (.invokestatic 3, 3) := dk_184 0 3 (dk_at dksX1_sell_0 9 rfl rfl)
theorem dX1_sell_12 : decode cX1_sell 12 = .ok (.invokestatic 136, 3) := dk_184 0 136 (dk_at dksX1_sell_0 12 rfl rfl)
theorem dX1_sell_15 : decode cX1_sell 15 = .ok (.aload_n 0, 1) := dk_42 (dk_at dksX1_sell_0 15 rfl rfl)
theorem dX1_sell_16 : decode cX1_sell 16 = .ok (.iload_n 1, 1) := dk_27 (dk_at dksX1_sell_0 16 rfl rfl)
theorem dX1_sell_17 : decode cX1_sell 17 = .ok (.iload_n 2, 1) := dk_28 (dk_at dksX1_sell_0 17 rfl rfl)
theorem dX1_sell_18 : decode cX1_sell 18 = .ok (.invokedynamic 199, 5) := by decide +kernel
theorem dX1_sell_23 : decode cX1_sell 23 = .ok (.invokevirtual 122, 3) := dk_182 0 122 (dk_at dksX1_sell_1 0 rfl rfl)
theorem dX1_sell_26 : decode cX1_sell 26 = .ok (.ireturn, 1) := dk_172 (dk_at dksX1_sell_1 3 rfl rfl)
abbrev cX1_lambda_sell_9 : ByteArray := prog_1_method_63_code
def yX1_lambda_sell_9 : MethodName := ⟨RX1, "lambda$sell$9", "(IILJumpHall$Hall;)I"⟩
def dkwX1_lambda_sell_9_0 : List UInt8 := [44, 26, 27, 182, 1, 175, 172]
abbrev dktX1_lambda_sell_9_0 : List UInt8 := dkwX1_lambda_sell_9_0 ++ []
theorem dksX1_lambda_sell_9_0 : cX1_lambda_sell_9.data.toList.drop 0 = dktX1_lambda_sell_9_0 := by decide +kernel
theorem dX1_lambda_sell_9_0 : decode cX1_lambda_sell_9 0 = .ok (.aload_n 2, 1) := dk_44 (dk_at dksX1_lambda_sell_9_0 0 rfl rfl)
theorem dX1_lambda_sell_9_1 : decode cX1_lambda_sell_9 1 = .ok (.iload_n 0, 1) := dk_26 (dk_at dksX1_lambda_sell_9_0 1 rfl rfl)
theorem dX1_lambda_sell_9_2 : decode cX1_lambda_sell_9 2 = .ok (.iload_n 1, 1) := dk_27 (dk_at dksX1_lambda_sell_9_0 2 rfl rfl)
theorem dX1_lambda_sell_9_3 : decode cX1_lambda_sell_9 3 = .ok (.invokevirtual 431, 3) := dk_182 1 175 (dk_at dksX1_lambda_sell_9_0 3 rfl rfl)
theorem dX1_lambda_sell_9_6 : decode cX1_lambda_sell_9 6 = .ok (.ireturn, 1) := dk_172 (dk_at dksX1_lambda_sell_9_0 6 rfl rfl)
abbrev cX1_jumperOf : ByteArray := prog_1_method_29_code
def yX1_jumperOf : MethodName := ⟨RX1, "jumperOf", "(II)I"⟩
def dkwX1_jumperOf_4 : List UInt8 := [172]
abbrev dktX1_jumperOf_4 : List UInt8 := dkwX1_jumperOf_4 ++ []
def dkwX1_jumperOf_3 : List UInt8 := [180, 0, 208, 167, 0, 21, 45, 180, 0, 211, 167, 0, 14, 45, 180, 0, 214, 167, 0, 7, 45, 180, 0, 217]
abbrev dktX1_jumperOf_3 : List UInt8 := dkwX1_jumperOf_3 ++ dktX1_jumperOf_4
def dkwX1_jumperOf_2 : List UInt8 := [45, 180, 0, 200, 167, 0, 42, 45, 180, 0, 203, 167, 0, 35, 45, 180, 0, 205, 167, 0, 28, 45]
abbrev dktX1_jumperOf_2 : List UInt8 := dkwX1_jumperOf_2 ++ dktX1_jumperOf_3
def dkwX1_jumperOf_1 : List UInt8 := [170, 0, 0, 0, 0, 0, 81, 0, 0, 0, 0, 0, 0, 0, 5, 0, 0, 0, 39, 0, 0, 0, 46, 0, 0, 0, 53, 0, 0, 0, 60, 0, 0, 0, 67, 0, 0, 0, 74]
abbrev dktX1_jumperOf_1 : List UInt8 := dkwX1_jumperOf_1 ++ dktX1_jumperOf_2
def dkwX1_jumperOf_0 : List UInt8 := [42, 27, 182, 0, 186, 78, 28, 3, 16, 6, 184, 0, 3, 184, 0, 136, 28]
abbrev dktX1_jumperOf_0 : List UInt8 := dkwX1_jumperOf_0 ++ dktX1_jumperOf_1
theorem dksX1_jumperOf_0 : cX1_jumperOf.data.toList.drop 0 = dktX1_jumperOf_0 := by decide +kernel
theorem dksX1_jumperOf_1 : cX1_jumperOf.data.toList.drop 17 = dktX1_jumperOf_1 := dk_seg dksX1_jumperOf_0 17 rfl rfl
theorem dksX1_jumperOf_2 : cX1_jumperOf.data.toList.drop 56 = dktX1_jumperOf_2 := dk_seg dksX1_jumperOf_1 39 rfl rfl
theorem dksX1_jumperOf_3 : cX1_jumperOf.data.toList.drop 78 = dktX1_jumperOf_3 := dk_seg dksX1_jumperOf_2 22 rfl rfl
theorem dksX1_jumperOf_4 : cX1_jumperOf.data.toList.drop 102 = dktX1_jumperOf_4 := dk_seg dksX1_jumperOf_3 24 rfl rfl
theorem dX1_jumperOf_0 : decode cX1_jumperOf 0 = .ok (.aload_n 0, 1) := dk_42 (dk_at dksX1_jumperOf_0 0 rfl rfl)
theorem dX1_jumperOf_1 : decode cX1_jumperOf 1 = .ok (.iload_n 1, 1) := dk_27 (dk_at dksX1_jumperOf_0 1 rfl rfl)
theorem dX1_jumperOf_2 : decode cX1_jumperOf 2 = .ok (.invokevirtual 186, 3) := dk_182 0 186 (dk_at dksX1_jumperOf_0 2 rfl rfl)
theorem dX1_jumperOf_5 : decode cX1_jumperOf 5 = .ok (.astore_n 3, 1) := dk_78 (dk_at dksX1_jumperOf_0 5 rfl rfl)
theorem dX1_jumperOf_6 : decode cX1_jumperOf 6 = .ok (.iload_n 2, 1) := dk_28 (dk_at dksX1_jumperOf_0 6 rfl rfl)
theorem dX1_jumperOf_7 : decode cX1_jumperOf 7 = .ok (.iconst 0, 1) := dk_3 (dk_at dksX1_jumperOf_0 7 rfl rfl)
theorem dX1_jumperOf_8 : decode cX1_jumperOf 8 = .ok (.bipush 6, 2) := dk_16 6 (dk_at dksX1_jumperOf_0 8 rfl rfl)
theorem dX1_jumperOf_10 : decode cX1_jumperOf 10 = .ok (.invokestatic 3, 3) := dk_184 0 3 (dk_at dksX1_jumperOf_0 10 rfl rfl)
theorem dX1_jumperOf_13 : decode cX1_jumperOf 13 = .ok (.invokestatic 136, 3) := dk_184 0 136 (dk_at dksX1_jumperOf_0 13 rfl rfl)
theorem dX1_jumperOf_16 : decode cX1_jumperOf 16 = .ok (.iload_n 2, 1) := dk_28 (dk_at dksX1_jumperOf_0 16 rfl rfl)
theorem dX1_jumperOf_17 : decode cX1_jumperOf 17 = .ok (.tableswitch 81 0 5 #[39, 46, 53, 60, 67, 74], 39) := by decide +kernel
theorem dX1_jumperOf_56 : decode cX1_jumperOf 56 = .ok (.aload_n 3, 1) := dk_45 (dk_at dksX1_jumperOf_2 0 rfl rfl)
theorem dX1_jumperOf_57 : decode cX1_jumperOf 57 = .ok (.getfield 200, 3) := dk_180 0 200 (dk_at dksX1_jumperOf_2 1 rfl rfl)
theorem dX1_jumperOf_60 : decode cX1_jumperOf 60 = .ok (.goto 42, 3) := dk_167 0 42 (dk_at dksX1_jumperOf_2 4 rfl rfl)
theorem dX1_jumperOf_63 : decode cX1_jumperOf 63 = .ok (.aload_n 3, 1) := dk_45 (dk_at dksX1_jumperOf_2 7 rfl rfl)
theorem dX1_jumperOf_64 : decode cX1_jumperOf 64 = .ok (.getfield 203, 3) := dk_180 0 203 (dk_at dksX1_jumperOf_2 8 rfl rfl)
theorem dX1_jumperOf_67 : decode cX1_jumperOf 67 = .ok (.goto 35, 3) := dk_167 0 35 (dk_at dksX1_jumperOf_2 11 rfl rfl)
theorem dX1_jumperOf_70 : decode cX1_jumperOf 70 = .ok (.aload_n 3, 1) := dk_45 (dk_at dksX1_jumperOf_2 14 rfl rfl)
theorem dX1_jumperOf_71 : decode cX1_jumperOf 71 = .ok (.getfield 205, 3) := dk_180 0 205 (dk_at dksX1_jumperOf_2 15 rfl rfl)
theorem dX1_jumperOf_74 : decode cX1_jumperOf 74 = .ok (.goto 28, 3) := dk_167 0 28 (dk_at dksX1_jumperOf_2 18 rfl rfl)
theorem dX1_jumperOf_77 : decode cX1_jumperOf 77 = .ok (.aload_n 3, 1) := dk_45 (dk_at dksX1_jumperOf_2 21 rfl rfl)
theorem dX1_jumperOf_78 : decode cX1_jumperOf 78 = .ok (.getfield 208, 3) := dk_180 0 208 (dk_at dksX1_jumperOf_3 0 rfl rfl)
theorem dX1_jumperOf_81 : decode cX1_jumperOf 81 = .ok (.goto 21, 3) := dk_167 0 21 (dk_at dksX1_jumperOf_3 3 rfl rfl)
theorem dX1_jumperOf_84 : decode cX1_jumperOf 84 = .ok (.aload_n 3, 1) := dk_45 (dk_at dksX1_jumperOf_3 6 rfl rfl)
theorem dX1_jumperOf_85 : decode cX1_jumperOf 85 = .ok (.getfield 211, 3) := dk_180 0 211 (dk_at dksX1_jumperOf_3 7 rfl rfl)
theorem dX1_jumperOf_88 : decode cX1_jumperOf 88 = .ok (.goto 14, 3) := dk_167 0 14 (dk_at dksX1_jumperOf_3 10 rfl rfl)
theorem dX1_jumperOf_91 : decode cX1_jumperOf 91 = .ok (.aload_n 3, 1) := dk_45 (dk_at dksX1_jumperOf_3 13 rfl rfl)
theorem dX1_jumperOf_92 : decode cX1_jumperOf 92 = .ok (.getfield 214, 3) := dk_180 0 214 (dk_at dksX1_jumperOf_3 14 rfl rfl)
theorem dX1_jumperOf_95 : decode cX1_jumperOf 95 = .ok (.goto 7, 3) := dk_167 0 7 (dk_at dksX1_jumperOf_3 17 rfl rfl)
theorem dX1_jumperOf_98 : decode cX1_jumperOf 98 = .ok (.aload_n 3, 1) := dk_45 (dk_at dksX1_jumperOf_3 20 rfl rfl)
theorem dX1_jumperOf_99 : decode cX1_jumperOf 99 = .ok (.getfield 217, 3) := dk_180 0 217 (dk_at dksX1_jumperOf_3 21 rfl rfl)
theorem dX1_jumperOf_102 : decode cX1_jumperOf 102 = .ok (.ireturn, 1) := dk_172 (dk_at dksX1_jumperOf_4 0 rfl rfl)
abbrev cX1_socks : ByteArray := prog_1_method_30_code
def yX1_socks : MethodName := ⟨RX1, "socks", "(IIZ)I"⟩
def dkwX1_socks_1 : List UInt8 := [180, 0, 39, 180, 0, 224, 187, 0, 227, 89, 27, 28, 183, 0, 229, 182, 0, 230, 172]
abbrev dktX1_socks_1 : List UInt8 := dkwX1_socks_1 ++ []
def dkwX1_socks_0 : List UInt8 := [27, 28, 184, 0, 192, 184, 0, 136, 29, 153, 0, 13, 42, 180, 0, 39, 180, 0, 220, 167, 0, 10, 42]
abbrev dktX1_socks_0 : List UInt8 := dkwX1_socks_0 ++ dktX1_socks_1
theorem dksX1_socks_0 : cX1_socks.data.toList.drop 0 = dktX1_socks_0 := by decide +kernel
theorem dksX1_socks_1 : cX1_socks.data.toList.drop 23 = dktX1_socks_1 := dk_seg dksX1_socks_0 23 rfl rfl
theorem dX1_socks_0 : decode cX1_socks 0 = .ok (.iload_n 1, 1) := dk_27 (dk_at dksX1_socks_0 0 rfl rfl)
theorem dX1_socks_1 : decode cX1_socks 1 = .ok (.iload_n 2, 1) := dk_28 (dk_at dksX1_socks_0 1 rfl rfl)
theorem dX1_socks_2 : decode cX1_socks 2 = .ok (.invokestatic 192, 3) := dk_184 0 192 (dk_at dksX1_socks_0 2 rfl rfl)
theorem dX1_socks_5 : decode cX1_socks 5 = .ok (.invokestatic 136, 3) := dk_184 0 136 (dk_at dksX1_socks_0 5 rfl rfl)
theorem dX1_socks_8 : decode cX1_socks 8 = .ok (.iload_n 3, 1) := dk_29 (dk_at dksX1_socks_0 8 rfl rfl)
theorem dX1_socks_9 : decode cX1_socks 9 = .ok (.ifCond .eq 13, 3) := dk_153 0 13 (dk_at dksX1_socks_0 9 rfl rfl)
theorem dX1_socks_12 : decode cX1_socks 12 = .ok (.aload_n 0, 1) := dk_42 (dk_at dksX1_socks_0 12 rfl rfl)
theorem dX1_socks_13 : decode cX1_socks 13 = .ok (.getfield 39, 3) := dk_180 0 39 (dk_at dksX1_socks_0 13 rfl rfl)
theorem dX1_socks_16 : decode cX1_socks 16 = .ok (.getfield 220, 3) := dk_180 0 220 (dk_at dksX1_socks_0 16 rfl rfl)
theorem dX1_socks_19 : decode cX1_socks 19 = .ok (.goto 10, 3) := dk_167 0 10 (dk_at dksX1_socks_0 19 rfl rfl)
theorem dX1_socks_22 : decode cX1_socks 22 = .ok (.aload_n 0, 1) := dk_42 (dk_at dksX1_socks_0 22 rfl rfl)
theorem dX1_socks_23 : decode cX1_socks 23 = .ok (.getfield 39, 3) := dk_180 0 39 (dk_at dksX1_socks_1 0 rfl rfl)
theorem dX1_socks_26 : decode cX1_socks 26 = .ok (.getfield 224, 3) := dk_180 0 224 (dk_at dksX1_socks_1 3 rfl rfl)
theorem dX1_socks_29 : decode cX1_socks 29 = .ok (.new 227, 3) := dk_187 0 227 (dk_at dksX1_socks_1 6 rfl rfl)
theorem dX1_socks_32 : decode cX1_socks 32 = .ok (.dup, 1) := dk_89 (dk_at dksX1_socks_1 9 rfl rfl)
theorem dX1_socks_33 : decode cX1_socks 33 = .ok (.iload_n 1, 1) := dk_27 (dk_at dksX1_socks_1 10 rfl rfl)
theorem dX1_socks_34 : decode cX1_socks 34 = .ok (.iload_n 2, 1) := dk_28 (dk_at dksX1_socks_1 11 rfl rfl)
theorem dX1_socks_35 : decode cX1_socks 35 = .ok (.invokespecial 229, 3) := dk_183 0 229 (dk_at dksX1_socks_1 12 rfl rfl)
theorem dX1_socks_38 : decode cX1_socks 38 = .ok (.invokevirtual 230, 3) := dk_182 0 230 (dk_at dksX1_socks_1 15 rfl rfl)
theorem dX1_socks_41 : decode cX1_socks 41 = .ok (.ireturn, 1) := dk_172 (dk_at dksX1_socks_1 18 rfl rfl)
abbrev cX1_bestSize : ByteArray := prog_1_method_31_code
def yX1_bestSize : MethodName := ⟨RX1, "bestSize", "()I"⟩
def dkwX1_bestSize_0 : List UInt8 := [42, 180, 0, 39, 182, 0, 236, 60, 27, 2, 159, 0, 7, 4, 167, 0, 4, 3, 184, 0, 175, 27, 172]
abbrev dktX1_bestSize_0 : List UInt8 := dkwX1_bestSize_0 ++ []
theorem dksX1_bestSize_0 : cX1_bestSize.data.toList.drop 0 = dktX1_bestSize_0 := by decide +kernel
theorem dX1_bestSize_0 : decode cX1_bestSize 0 = .ok (.aload_n 0, 1) := dk_42 (dk_at dksX1_bestSize_0 0 rfl rfl)
theorem dX1_bestSize_1 : decode cX1_bestSize 1 = .ok (.getfield 39, 3) := dk_180 0 39 (dk_at dksX1_bestSize_0 1 rfl rfl)
theorem dX1_bestSize_4 : decode cX1_bestSize 4 = .ok (.invokevirtual 236, 3) := dk_182 0 236 (dk_at dksX1_bestSize_0 4 rfl rfl)
theorem dX1_bestSize_7 : decode cX1_bestSize 7 = .ok (.istore_n 1, 1) := dk_60 (dk_at dksX1_bestSize_0 7 rfl rfl)
theorem dX1_bestSize_8 : decode cX1_bestSize 8 = .ok (.iload_n 1, 1) := dk_27 (dk_at dksX1_bestSize_0 8 rfl rfl)
theorem dX1_bestSize_9 : decode cX1_bestSize 9 = .ok (.iconst (-1), 1) := dk_2 (dk_at dksX1_bestSize_0 9 rfl rfl)
theorem dX1_bestSize_10 : decode cX1_bestSize 10 = .ok (.if_icmp .eq 7, 3) := dk_159 0 7 (dk_at dksX1_bestSize_0 10 rfl rfl)
theorem dX1_bestSize_13 : decode cX1_bestSize 13 = .ok (.iconst 1, 1) := dk_4 (dk_at dksX1_bestSize_0 13 rfl rfl)
theorem dX1_bestSize_14 : decode cX1_bestSize 14 = .ok (.goto 4, 3) := dk_167 0 4 (dk_at dksX1_bestSize_0 14 rfl rfl)
theorem dX1_bestSize_17 : decode cX1_bestSize 17 = .ok (.iconst 0, 1) := dk_3 (dk_at dksX1_bestSize_0 17 rfl rfl)
theorem dX1_bestSize_18 : decode cX1_bestSize 18 = .ok (.invokestatic 175, 3) := dk_184 0 175 (dk_at dksX1_bestSize_0 18 rfl rfl)
theorem dX1_bestSize_21 : decode cX1_bestSize 21 = .ok (.iload_n 1, 1) := dk_27 (dk_at dksX1_bestSize_0 21 rfl rfl)
theorem dX1_bestSize_22 : decode cX1_bestSize 22 = .ok (.ireturn, 1) := dk_172 (dk_at dksX1_bestSize_0 22 rfl rfl)
abbrev cX1_matFor : ByteArray := prog_1_method_32_code
def yX1_matFor : MethodName := ⟨RX1, "matFor", "(I)I"⟩
def dkwX1_matFor_1 : List UInt8 := [3, 184, 0, 175, 29, 172]
abbrev dktX1_matFor_1 : List UInt8 := dkwX1_matFor_1 ++ []
def dkwX1_matFor_0 : List UInt8 := [42, 27, 182, 0, 186, 77, 42, 180, 0, 39, 27, 182, 0, 239, 62, 29, 2, 159, 0, 7, 4, 167, 0, 4]
abbrev dktX1_matFor_0 : List UInt8 := dkwX1_matFor_0 ++ dktX1_matFor_1
theorem dksX1_matFor_0 : cX1_matFor.data.toList.drop 0 = dktX1_matFor_0 := by decide +kernel
theorem dksX1_matFor_1 : cX1_matFor.data.toList.drop 24 = dktX1_matFor_1 := dk_seg dksX1_matFor_0 24 rfl rfl
theorem dX1_matFor_0 : decode cX1_matFor 0 = .ok (.aload_n 0, 1) := dk_42 (dk_at dksX1_matFor_0 0 rfl rfl)
theorem dX1_matFor_1 : decode cX1_matFor 1 = .ok (.iload_n 1, 1) := dk_27 (dk_at dksX1_matFor_0 1 rfl rfl)
theorem dX1_matFor_2 : decode cX1_matFor 2 = .ok (.invokevirtual 186, 3) := dk_182 0 186 (dk_at dksX1_matFor_0 2 rfl rfl)
theorem dX1_matFor_5 : decode cX1_matFor 5 = .ok (.astore_n 2, 1) := dk_77 (dk_at dksX1_matFor_0 5 rfl rfl)
theorem dX1_matFor_6 : decode cX1_matFor 6 = .ok (.aload_n 0, 1) := dk_42 (dk_at dksX1_matFor_0 6 rfl rfl)
theorem dX1_matFor_7 : decode cX1_matFor 7 = .ok (.getfield 39, 3) := dk_180 0 39 (dk_at dksX1_matFor_0 7 rfl rfl)
theorem dX1_matFor_10 : decode cX1_matFor 10 = .ok (.iload_n 1, 1) := dk_27 (dk_at dksX1_matFor_0 10 rfl rfl)
theorem dX1_matFor_11 : decode cX1_matFor 11 = .ok (.invokevirtual 239, 3) := dk_182 0 239 (dk_at dksX1_matFor_0 11 rfl rfl)
theorem dX1_matFor_14 : decode cX1_matFor 14 = .ok (.istore_n 3, 1) := dk_62 (dk_at dksX1_matFor_0 14 rfl rfl)
theorem dX1_matFor_15 : decode cX1_matFor 15 = .ok (.iload_n 3, 1) := dk_29 (dk_at dksX1_matFor_0 15 rfl rfl)
theorem dX1_matFor_16 : decode cX1_matFor 16 = .ok (.iconst (-1), 1) := dk_2 (dk_at dksX1_matFor_0 16 rfl rfl)
theorem dX1_matFor_17 : decode cX1_matFor 17 = .ok (.if_icmp .eq 7, 3) := dk_159 0 7 (dk_at dksX1_matFor_0 17 rfl rfl)
theorem dX1_matFor_20 : decode cX1_matFor 20 = .ok (.iconst 1, 1) := dk_4 (dk_at dksX1_matFor_0 20 rfl rfl)
theorem dX1_matFor_21 : decode cX1_matFor 21 = .ok (.goto 4, 3) := dk_167 0 4 (dk_at dksX1_matFor_0 21 rfl rfl)
theorem dX1_matFor_24 : decode cX1_matFor 24 = .ok (.iconst 0, 1) := dk_3 (dk_at dksX1_matFor_1 0 rfl rfl)
theorem dX1_matFor_25 : decode cX1_matFor 25 = .ok (.invokestatic 175, 3) := dk_184 0 175 (dk_at dksX1_matFor_1 1 rfl rfl)
theorem dX1_matFor_28 : decode cX1_matFor 28 = .ok (.iload_n 3, 1) := dk_29 (dk_at dksX1_matFor_1 4 rfl rfl)
theorem dX1_matFor_29 : decode cX1_matFor 29 = .ok (.ireturn, 1) := dk_172 (dk_at dksX1_matFor_1 5 rfl rfl)
abbrev cX1_guard : ByteArray := prog_1_method_33_code
def yX1_guard : MethodName := ⟨RX1, "guard", "()I"⟩
def dkwX1_guard_0 : List UInt8 := [42, 186, 0, 242, 0, 0, 182, 0, 122, 172]
abbrev dktX1_guard_0 : List UInt8 := dkwX1_guard_0 ++ []
theorem dksX1_guard_0 : cX1_guard.data.toList.drop 0 = dktX1_guard_0 := by decide +kernel
theorem dX1_guard_0 : decode cX1_guard 0 = .ok (.aload_n 0, 1) := dk_42 (dk_at dksX1_guard_0 0 rfl rfl)
theorem dX1_guard_1 : decode cX1_guard 1 = .ok (.invokedynamic 242, 5) := by decide +kernel
theorem dX1_guard_6 : decode cX1_guard 6 = .ok (.invokevirtual 122, 3) := dk_182 0 122 (dk_at dksX1_guard_0 6 rfl rfl)
theorem dX1_guard_9 : decode cX1_guard 9 = .ok (.ireturn, 1) := dk_172 (dk_at dksX1_guard_0 9 rfl rfl)
abbrev cX1_lambda_guard_10 : ByteArray := prog_1_method_62_code
def yX1_lambda_guard_10 : MethodName := ⟨RX1, "lambda$guard$10", "(LJumpHall$Hall;)I"⟩
theorem dX1_lambda_guard_10_0 : decode cX1_lambda_guard_10 0 = .ok (.aload_n 0, 1) := by decide +kernel
theorem dX1_lambda_guard_10_1 : decode cX1_lambda_guard_10 1 = .ok (.invokevirtual 428, 3) := by decide +kernel
theorem dX1_lambda_guard_10_4 : decode cX1_lambda_guard_10 4 = .ok (.ireturn, 1) := by decide +kernel
abbrev cX1_place : ByteArray := prog_1_method_34_code
def yX1_place : MethodName := ⟨RX1, "place", "(II)I"⟩
def dkwX1_place_1 : List UInt8 := [167, 0, 4, 3, 184, 0, 94, 42, 27, 28, 186, 0, 246, 0, 0, 182, 0, 122, 172]
abbrev dktX1_place_1 : List UInt8 := dkwX1_place_1 ++ []
def dkwX1_place_0 : List UInt8 := [42, 180, 0, 39, 27, 182, 0, 243, 153, 0, 18, 42, 180, 0, 39, 28, 182, 0, 90, 153, 0, 7, 4]
abbrev dktX1_place_0 : List UInt8 := dkwX1_place_0 ++ dktX1_place_1
theorem dksX1_place_0 : cX1_place.data.toList.drop 0 = dktX1_place_0 := by decide +kernel
theorem dksX1_place_1 : cX1_place.data.toList.drop 23 = dktX1_place_1 := dk_seg dksX1_place_0 23 rfl rfl
theorem dX1_place_0 : decode cX1_place 0 = .ok (.aload_n 0, 1) := dk_42 (dk_at dksX1_place_0 0 rfl rfl)
theorem dX1_place_1 : decode cX1_place 1 = .ok (.getfield 39, 3) := dk_180 0 39 (dk_at dksX1_place_0 1 rfl rfl)
theorem dX1_place_4 : decode cX1_place 4 = .ok (.iload_n 1, 1) := dk_27 (dk_at dksX1_place_0 4 rfl rfl)
theorem dX1_place_5 : decode cX1_place 5 = .ok (.invokevirtual 243, 3) := dk_182 0 243 (dk_at dksX1_place_0 5 rfl rfl)
theorem dX1_place_8 : decode cX1_place 8 = .ok (.ifCond .eq 18, 3) := dk_153 0 18 (dk_at dksX1_place_0 8 rfl rfl)
theorem dX1_place_11 : decode cX1_place 11 = .ok (.aload_n 0, 1) := dk_42 (dk_at dksX1_place_0 11 rfl rfl)
theorem dX1_place_12 : decode cX1_place 12 = .ok (.getfield 39, 3) := dk_180 0 39 (dk_at dksX1_place_0 12 rfl rfl)
theorem dX1_place_15 : decode cX1_place 15 = .ok (.iload_n 2, 1) := dk_28 (dk_at dksX1_place_0 15 rfl rfl)
theorem dX1_place_16 : decode cX1_place 16 = .ok (.invokevirtual 90, 3) := dk_182 0 90 (dk_at dksX1_place_0 16 rfl rfl)
theorem dX1_place_19 : decode cX1_place 19 = .ok (.ifCond .eq 7, 3) := dk_153 0 7 (dk_at dksX1_place_0 19 rfl rfl)
theorem dX1_place_22 : decode cX1_place 22 = .ok (.iconst 1, 1) := dk_4 (dk_at dksX1_place_0 22 rfl rfl)
theorem dX1_place_23 : decode cX1_place 23 = .ok (.goto 4, 3) := dk_167 0 4 (dk_at dksX1_place_1 0 rfl rfl)
theorem dX1_place_26 : decode cX1_place 26 = .ok (.iconst 0, 1) := dk_3 (dk_at dksX1_place_1 3 rfl rfl)
theorem dX1_place_27 : decode cX1_place 27 = .ok (.invokestatic 94, 3) := dk_184 0 94 (dk_at dksX1_place_1 4 rfl rfl)
theorem dX1_place_30 : decode cX1_place 30 = .ok (.aload_n 0, 1) := dk_42 (dk_at dksX1_place_1 7 rfl rfl)
theorem dX1_place_31 : decode cX1_place 31 = .ok (.iload_n 1, 1) := dk_27 (dk_at dksX1_place_1 8 rfl rfl)
theorem dX1_place_32 : decode cX1_place 32 = .ok (.iload_n 2, 1) := dk_28 (dk_at dksX1_place_1 9 rfl rfl)
theorem dX1_place_33 : decode cX1_place 33 = .ok (.invokedynamic 246, 5) := by decide +kernel
theorem dX1_place_38 : decode cX1_place 38 = .ok (.invokevirtual 122, 3) := dk_182 0 122 (dk_at dksX1_place_1 15 rfl rfl)
theorem dX1_place_41 : decode cX1_place 41 = .ok (.ireturn, 1) := dk_172 (dk_at dksX1_place_1 18 rfl rfl)
abbrev cX1_lambda_place_11 : ByteArray := prog_1_method_61_code
def yX1_lambda_place_11 : MethodName := ⟨RX1, "lambda$place$11", "(IILJumpHall$Hall;)I"⟩
def dkwX1_lambda_place_11_0 : List UInt8 := [44, 26, 27, 182, 1, 168, 172]
abbrev dktX1_lambda_place_11_0 : List UInt8 := dkwX1_lambda_place_11_0 ++ []
theorem dksX1_lambda_place_11_0 : cX1_lambda_place_11.data.toList.drop 0 = dktX1_lambda_place_11_0 := by decide +kernel
theorem dX1_lambda_place_11_0 : decode cX1_lambda_place_11 0 = .ok (.aload_n 2, 1) := dk_44 (dk_at dksX1_lambda_place_11_0 0 rfl rfl)
theorem dX1_lambda_place_11_1 : decode cX1_lambda_place_11 1 = .ok (.iload_n 0, 1) := dk_26 (dk_at dksX1_lambda_place_11_0 1 rfl rfl)
theorem dX1_lambda_place_11_2 : decode cX1_lambda_place_11 2 = .ok (.iload_n 1, 1) := dk_27 (dk_at dksX1_lambda_place_11_0 2 rfl rfl)
theorem dX1_lambda_place_11_3 : decode cX1_lambda_place_11 3 = .ok (.invokevirtual 424, 3) := dk_182 1 168 (dk_at dksX1_lambda_place_11_0 3 rfl rfl)
theorem dX1_lambda_place_11_6 : decode cX1_lambda_place_11 6 = .ok (.ireturn, 1) := dk_172 (dk_at dksX1_lambda_place_11_0 6 rfl rfl)
abbrev cX1_at : ByteArray := prog_1_method_35_code
def yX1_at : MethodName := ⟨RX1, "at", "(I)I"⟩
def dkwX1_at_1 : List UInt8 := [192, 0, 250, 182, 0, 252, 61, 28, 2, 159, 0, 7, 4, 167, 0, 4, 3, 184, 0, 175, 28, 172]
abbrev dktX1_at_1 : List UInt8 := dkwX1_at_1 ++ []
def dkwX1_at_0 : List UInt8 := [42, 180, 0, 39, 27, 182, 0, 243, 184, 0, 94, 42, 180, 0, 39, 180, 0, 247, 27, 182, 0, 101]
abbrev dktX1_at_0 : List UInt8 := dkwX1_at_0 ++ dktX1_at_1
theorem dksX1_at_0 : cX1_at.data.toList.drop 0 = dktX1_at_0 := by decide +kernel
theorem dksX1_at_1 : cX1_at.data.toList.drop 22 = dktX1_at_1 := dk_seg dksX1_at_0 22 rfl rfl
theorem dX1_at_0 : decode cX1_at 0 = .ok (.aload_n 0, 1) := dk_42 (dk_at dksX1_at_0 0 rfl rfl)
theorem dX1_at_1 : decode cX1_at 1 = .ok (.getfield 39, 3) := dk_180 0 39 (dk_at dksX1_at_0 1 rfl rfl)
theorem dX1_at_4 : decode cX1_at 4 = .ok (.iload_n 1, 1) := dk_27 (dk_at dksX1_at_0 4 rfl rfl)
theorem dX1_at_5 : decode cX1_at 5 = .ok (.invokevirtual 243, 3) := dk_182 0 243 (dk_at dksX1_at_0 5 rfl rfl)
theorem dX1_at_8 : decode cX1_at 8 = .ok (.invokestatic 94, 3) := dk_184 0 94 (dk_at dksX1_at_0 8 rfl rfl)
theorem dX1_at_11 : decode cX1_at 11 = .ok (.aload_n 0, 1) := dk_42 (dk_at dksX1_at_0 11 rfl rfl)
theorem dX1_at_12 : decode cX1_at 12 = .ok (.getfield 39, 3) := dk_180 0 39 (dk_at dksX1_at_0 12 rfl rfl)
theorem dX1_at_15 : decode cX1_at 15 = .ok (.getfield 247, 3) := dk_180 0 247 (dk_at dksX1_at_0 15 rfl rfl)
theorem dX1_at_18 : decode cX1_at 18 = .ok (.iload_n 1, 1) := dk_27 (dk_at dksX1_at_0 18 rfl rfl)
theorem dX1_at_19 : decode cX1_at 19 = .ok (.invokevirtual 101, 3) := dk_182 0 101 (dk_at dksX1_at_0 19 rfl rfl)
theorem dX1_at_22 : decode cX1_at 22 = .ok (.checkcast 250, 3) := dk_192 0 250 (dk_at dksX1_at_1 0 rfl rfl)
theorem dX1_at_25 : decode cX1_at 25 = .ok (.invokevirtual 252, 3) := dk_182 0 252 (dk_at dksX1_at_1 3 rfl rfl)
theorem dX1_at_28 : decode cX1_at 28 = .ok (.istore_n 2, 1) := dk_61 (dk_at dksX1_at_1 6 rfl rfl)
theorem dX1_at_29 : decode cX1_at 29 = .ok (.iload_n 2, 1) := dk_28 (dk_at dksX1_at_1 7 rfl rfl)
theorem dX1_at_30 : decode cX1_at 30 = .ok (.iconst (-1), 1) := dk_2 (dk_at dksX1_at_1 8 rfl rfl)
theorem dX1_at_31 : decode cX1_at 31 = .ok (.if_icmp .eq 7, 3) := dk_159 0 7 (dk_at dksX1_at_1 9 rfl rfl)
theorem dX1_at_34 : decode cX1_at 34 = .ok (.iconst 1, 1) := dk_4 (dk_at dksX1_at_1 12 rfl rfl)
theorem dX1_at_35 : decode cX1_at 35 = .ok (.goto 4, 3) := dk_167 0 4 (dk_at dksX1_at_1 13 rfl rfl)
theorem dX1_at_38 : decode cX1_at 38 = .ok (.iconst 0, 1) := dk_3 (dk_at dksX1_at_1 16 rfl rfl)
theorem dX1_at_39 : decode cX1_at 39 = .ok (.invokestatic 175, 3) := dk_184 0 175 (dk_at dksX1_at_1 17 rfl rfl)
theorem dX1_at_42 : decode cX1_at 42 = .ok (.iload_n 2, 1) := dk_28 (dk_at dksX1_at_1 20 rfl rfl)
theorem dX1_at_43 : decode cX1_at 43 = .ok (.ireturn, 1) := dk_172 (dk_at dksX1_at_1 21 rfl rfl)
abbrev cX1_book : ByteArray := prog_1_method_36_code
def yX1_book : MethodName := ⟨RX1, "book", "(IIII)I"⟩
def dkwX1_book_2 : List UInt8 := [184, 0, 136, 42, 27, 28, 29, 21, 4, 186, 0, 255, 0, 0, 182, 0, 122, 172]
abbrev dktX1_book_2 : List UInt8 := dkwX1_book_2 ++ []
def dkwX1_book_1 : List UInt8 := [16, 99, 184, 0, 3, 153, 0, 17, 21, 4, 3, 7, 184, 0, 3, 153, 0, 7, 4, 167, 0, 4, 3]
abbrev dktX1_book_1 : List UInt8 := dkwX1_book_1 ++ dktX1_book_2
def dkwX1_book_0 : List UInt8 := [27, 3, 17, 39, 15, 184, 0, 3, 153, 0, 38, 28, 4, 16, 6, 184, 0, 3, 153, 0, 28, 29, 16, 10]
abbrev dktX1_book_0 : List UInt8 := dkwX1_book_0 ++ dktX1_book_1
theorem dksX1_book_0 : cX1_book.data.toList.drop 0 = dktX1_book_0 := by decide +kernel
theorem dksX1_book_1 : cX1_book.data.toList.drop 24 = dktX1_book_1 := dk_seg dksX1_book_0 24 rfl rfl
theorem dksX1_book_2 : cX1_book.data.toList.drop 47 = dktX1_book_2 := dk_seg dksX1_book_1 23 rfl rfl
theorem dX1_book_0 : decode cX1_book 0 = .ok (.iload_n 1, 1) := dk_27 (dk_at dksX1_book_0 0 rfl rfl)
theorem dX1_book_1 : decode cX1_book 1 = .ok (.iconst 0, 1) := dk_3 (dk_at dksX1_book_0 1 rfl rfl)
theorem dX1_book_2 : decode cX1_book 2 = .ok (.sipush 9999, 3) := dk_17 39 15 (dk_at dksX1_book_0 2 rfl rfl)
theorem dX1_book_5 : decode cX1_book 5 = .ok (.invokestatic 3, 3) := dk_184 0 3 (dk_at dksX1_book_0 5 rfl rfl)
theorem dX1_book_8 : decode cX1_book 8 = .ok (.ifCond .eq 38, 3) := dk_153 0 38 (dk_at dksX1_book_0 8 rfl rfl)
theorem dX1_book_11 : decode cX1_book 11 = .ok (.iload_n 2, 1) := dk_28 (dk_at dksX1_book_0 11 rfl rfl)
theorem dX1_book_12 : decode cX1_book 12 = .ok (.iconst 1, 1) := dk_4 (dk_at dksX1_book_0 12 rfl rfl)
theorem dX1_book_13 : decode cX1_book 13 = .ok (.bipush 6, 2) := dk_16 6 (dk_at dksX1_book_0 13 rfl rfl)
theorem dX1_book_15 : decode cX1_book 15 = .ok (.invokestatic 3, 3) := dk_184 0 3 (dk_at dksX1_book_0 15 rfl rfl)
theorem dX1_book_18 : decode cX1_book 18 = .ok (.ifCond .eq 28, 3) := dk_153 0 28 (dk_at dksX1_book_0 18 rfl rfl)
theorem dX1_book_21 : decode cX1_book 21 = .ok (.iload_n 3, 1) := dk_29 (dk_at dksX1_book_0 21 rfl rfl)
theorem dX1_book_22 : decode cX1_book 22 = .ok (.bipush 10, 2) := dk_16 10 (dk_at dksX1_book_0 22 rfl rfl)
theorem dX1_book_24 : decode cX1_book 24 = .ok (.bipush 99, 2) := dk_16 99 (dk_at dksX1_book_1 0 rfl rfl)
theorem dX1_book_26 : decode cX1_book 26 = .ok (.invokestatic 3, 3) := dk_184 0 3 (dk_at dksX1_book_1 2 rfl rfl)
theorem dX1_book_29 : decode cX1_book 29 = .ok (.ifCond .eq 17, 3) := dk_153 0 17 (dk_at dksX1_book_1 5 rfl rfl)
theorem dX1_book_32 : decode cX1_book 32 = .ok (.iload 4, 2) := dk_21 4 (dk_at dksX1_book_1 8 rfl rfl)
theorem dX1_book_34 : decode cX1_book 34 = .ok (.iconst 0, 1) := dk_3 (dk_at dksX1_book_1 10 rfl rfl)
theorem dX1_book_35 : decode cX1_book 35 = .ok (.iconst 4, 1) := dk_7 (dk_at dksX1_book_1 11 rfl rfl)
theorem dX1_book_36 : decode cX1_book 36 = .ok (.invokestatic 3, 3) := dk_184 0 3 (dk_at dksX1_book_1 12 rfl rfl)
theorem dX1_book_39 : decode cX1_book 39 = .ok (.ifCond .eq 7, 3) := dk_153 0 7 (dk_at dksX1_book_1 15 rfl rfl)
theorem dX1_book_42 : decode cX1_book 42 = .ok (.iconst 1, 1) := dk_4 (dk_at dksX1_book_1 18 rfl rfl)
theorem dX1_book_43 : decode cX1_book 43 = .ok (.goto 4, 3) := dk_167 0 4 (dk_at dksX1_book_1 19 rfl rfl)
theorem dX1_book_46 : decode cX1_book 46 = .ok (.iconst 0, 1) := dk_3 (dk_at dksX1_book_1 22 rfl rfl)
theorem dX1_book_47 : decode cX1_book 47 = .ok (.invokestatic 136, 3) := dk_184 0 136 (dk_at dksX1_book_2 0 rfl rfl)
theorem dX1_book_50 : decode cX1_book 50 = .ok (.aload_n 0, 1) := dk_42 (dk_at dksX1_book_2 3 rfl rfl)
theorem dX1_book_51 : decode cX1_book 51 = .ok (.iload_n 1, 1) := dk_27 (dk_at dksX1_book_2 4 rfl rfl)
theorem dX1_book_52 : decode cX1_book 52 = .ok (.iload_n 2, 1) := dk_28 (dk_at dksX1_book_2 5 rfl rfl)
theorem dX1_book_53 : decode cX1_book 53 = .ok (.iload_n 3, 1) := dk_29 (dk_at dksX1_book_2 6 rfl rfl)
theorem dX1_book_54 : decode cX1_book 54 = .ok (.iload 4, 2) := dk_21 4 (dk_at dksX1_book_2 7 rfl rfl)
theorem dX1_book_56 : decode cX1_book 56 = .ok (.invokedynamic 255, 5) := by decide +kernel
theorem dX1_book_61 : decode cX1_book 61 = .ok (.invokevirtual 122, 3) := dk_182 0 122 (dk_at dksX1_book_2 14 rfl rfl)
theorem dX1_book_64 : decode cX1_book 64 = .ok (.ireturn, 1) := dk_172 (dk_at dksX1_book_2 17 rfl rfl)
abbrev cX1_lambda_book_12 : ByteArray := prog_1_method_60_code
def yX1_lambda_book_12 : MethodName := ⟨RX1, "lambda$book$12", "(IIIILJumpHall$Hall;)I"⟩
def dkwX1_lambda_book_12_0 : List UInt8 := [25, 4, 26, 27, 28, 29, 182, 1, 164, 172]
abbrev dktX1_lambda_book_12_0 : List UInt8 := dkwX1_lambda_book_12_0 ++ []
theorem dksX1_lambda_book_12_0 : cX1_lambda_book_12.data.toList.drop 0 = dktX1_lambda_book_12_0 := by decide +kernel
theorem dX1_lambda_book_12_0 : decode cX1_lambda_book_12 0 = .ok (.aload 4, 2) := dk_25 4 (dk_at dksX1_lambda_book_12_0 0 rfl rfl)
theorem dX1_lambda_book_12_2 : decode cX1_lambda_book_12 2 = .ok (.iload_n 0, 1) := dk_26 (dk_at dksX1_lambda_book_12_0 2 rfl rfl)
theorem dX1_lambda_book_12_3 : decode cX1_lambda_book_12 3 = .ok (.iload_n 1, 1) := dk_27 (dk_at dksX1_lambda_book_12_0 3 rfl rfl)
theorem dX1_lambda_book_12_4 : decode cX1_lambda_book_12 4 = .ok (.iload_n 2, 1) := dk_28 (dk_at dksX1_lambda_book_12_0 4 rfl rfl)
theorem dX1_lambda_book_12_5 : decode cX1_lambda_book_12 5 = .ok (.iload_n 3, 1) := dk_29 (dk_at dksX1_lambda_book_12_0 5 rfl rfl)
theorem dX1_lambda_book_12_6 : decode cX1_lambda_book_12 6 = .ok (.invokevirtual 420, 3) := dk_182 1 164 (dk_at dksX1_lambda_book_12_0 6 rfl rfl)
theorem dX1_lambda_book_12_9 : decode cX1_lambda_book_12 9 = .ok (.ireturn, 1) := dk_172 (dk_at dksX1_lambda_book_12_0 9 rfl rfl)
abbrev cX1_cancel : ByteArray := prog_1_method_37_code
def yX1_cancel : MethodName := ⟨RX1, "cancel", "(I)I"⟩
def dkwX1_cancel_0 : List UInt8 := [42, 27, 182, 1, 2, 77, 42, 27, 186, 1, 6, 0, 0, 182, 0, 122, 172]
abbrev dktX1_cancel_0 : List UInt8 := dkwX1_cancel_0 ++ []
theorem dksX1_cancel_0 : cX1_cancel.data.toList.drop 0 = dktX1_cancel_0 := by decide +kernel
theorem dX1_cancel_0 : decode cX1_cancel 0 = .ok (.aload_n 0, 1) := dk_42 (dk_at dksX1_cancel_0 0 rfl rfl)
theorem dX1_cancel_1 : decode cX1_cancel 1 = .ok (.iload_n 1, 1) := dk_27 (dk_at dksX1_cancel_0 1 rfl rfl)
theorem dX1_cancel_2 : decode cX1_cancel 2 = .ok (.invokevirtual 258, 3) := dk_182 1 2 (dk_at dksX1_cancel_0 2 rfl rfl)
theorem dX1_cancel_5 : decode cX1_cancel 5 = .ok (.astore_n 2, 1) := dk_77 (dk_at dksX1_cancel_0 5 rfl rfl)
theorem dX1_cancel_6 : decode cX1_cancel 6 = .ok (.aload_n 0, 1) := dk_42 (dk_at dksX1_cancel_0 6 rfl rfl)
theorem dX1_cancel_7 : decode cX1_cancel 7 = .ok (.iload_n 1, 1) := dk_27 (dk_at dksX1_cancel_0 7 rfl rfl)
theorem dX1_cancel_8 : decode cX1_cancel 8 = .ok (.invokedynamic 262, 5) := by decide +kernel
theorem dX1_cancel_13 : decode cX1_cancel 13 = .ok (.invokevirtual 122, 3) := dk_182 0 122 (dk_at dksX1_cancel_0 13 rfl rfl)
theorem dX1_cancel_16 : decode cX1_cancel 16 = .ok (.ireturn, 1) := dk_172 (dk_at dksX1_cancel_0 16 rfl rfl)
abbrev cX1_partyAt : ByteArray := prog_1_method_14_code
def yX1_partyAt : MethodName := ⟨RX1, "partyAt", "(I)LJumpHall$Party;"⟩
def dkwX1_partyAt_1 : List UInt8 := [180, 0, 114, 27, 182, 0, 101, 192, 0, 117, 176]
abbrev dktX1_partyAt_1 : List UInt8 := dkwX1_partyAt_1 ++ []
def dkwX1_partyAt_0 : List UInt8 := [27, 3, 42, 180, 0, 39, 180, 0, 114, 182, 0, 71, 4, 100, 184, 0, 3, 184, 0, 94, 42, 180, 0, 39]
abbrev dktX1_partyAt_0 : List UInt8 := dkwX1_partyAt_0 ++ dktX1_partyAt_1
theorem dksX1_partyAt_0 : cX1_partyAt.data.toList.drop 0 = dktX1_partyAt_0 := by decide +kernel
theorem dksX1_partyAt_1 : cX1_partyAt.data.toList.drop 24 = dktX1_partyAt_1 := dk_seg dksX1_partyAt_0 24 rfl rfl
theorem dX1_partyAt_0 : decode cX1_partyAt 0 = .ok (.iload_n 1, 1) := dk_27 (dk_at dksX1_partyAt_0 0 rfl rfl)
theorem dX1_partyAt_1 : decode cX1_partyAt 1 = .ok (.iconst 0, 1) := dk_3 (dk_at dksX1_partyAt_0 1 rfl rfl)
theorem dX1_partyAt_2 : decode cX1_partyAt 2 = .ok (.aload_n 0, 1) := dk_42 (dk_at dksX1_partyAt_0 2 rfl rfl)
theorem dX1_partyAt_3 : decode cX1_partyAt 3 = .ok (.getfield 39, 3) := dk_180 0 39 (dk_at dksX1_partyAt_0 3 rfl rfl)
theorem dX1_partyAt_6 : decode cX1_partyAt 6 = .ok (.getfield 114, 3) := dk_180 0 114 (dk_at dksX1_partyAt_0 6 rfl rfl)
theorem dX1_partyAt_9 : decode cX1_partyAt 9 = .ok (.invokevirtual 71, 3) := dk_182 0 71 (dk_at dksX1_partyAt_0 9 rfl rfl)
theorem dX1_partyAt_12 : decode cX1_partyAt 12 = .ok (.iconst 1, 1) := dk_4 (dk_at dksX1_partyAt_0 12 rfl rfl)
theorem dX1_partyAt_13 : decode cX1_partyAt 13 = .ok (.isub, 1) := dk_100 (dk_at dksX1_partyAt_0 13 rfl rfl)
theorem dX1_partyAt_14 : decode cX1_partyAt 14 = .ok (.invokestatic 3, 3) := dk_184 0 3 (dk_at dksX1_partyAt_0 14 rfl rfl)
theorem dX1_partyAt_17 : decode cX1_partyAt 17 = .ok (.invokestatic 94, 3) := dk_184 0 94 (dk_at dksX1_partyAt_0 17 rfl rfl)
theorem dX1_partyAt_20 : decode cX1_partyAt 20 = .ok (.aload_n 0, 1) := dk_42 (dk_at dksX1_partyAt_0 20 rfl rfl)
theorem dX1_partyAt_21 : decode cX1_partyAt 21 = .ok (.getfield 39, 3) := dk_180 0 39 (dk_at dksX1_partyAt_0 21 rfl rfl)
theorem dX1_partyAt_24 : decode cX1_partyAt 24 = .ok (.getfield 114, 3) := dk_180 0 114 (dk_at dksX1_partyAt_1 0 rfl rfl)
theorem dX1_partyAt_27 : decode cX1_partyAt 27 = .ok (.iload_n 1, 1) := dk_27 (dk_at dksX1_partyAt_1 3 rfl rfl)
theorem dX1_partyAt_28 : decode cX1_partyAt 28 = .ok (.invokevirtual 101, 3) := dk_182 0 101 (dk_at dksX1_partyAt_1 4 rfl rfl)
theorem dX1_partyAt_31 : decode cX1_partyAt 31 = .ok (.checkcast 117, 3) := dk_192 0 117 (dk_at dksX1_partyAt_1 7 rfl rfl)
theorem dX1_partyAt_34 : decode cX1_partyAt 34 = .ok (.areturn, 1) := dk_176 (dk_at dksX1_partyAt_1 10 rfl rfl)
abbrev cX1_lambda_cancel_13 : ByteArray := prog_1_method_59_code
def yX1_lambda_cancel_13 : MethodName := ⟨RX1, "lambda$cancel$13", "(ILJumpHall$Hall;)I"⟩
def dkwX1_lambda_cancel_13_0 : List UInt8 := [43, 26, 182, 1, 161, 172]
abbrev dktX1_lambda_cancel_13_0 : List UInt8 := dkwX1_lambda_cancel_13_0 ++ []
theorem dksX1_lambda_cancel_13_0 : cX1_lambda_cancel_13.data.toList.drop 0 = dktX1_lambda_cancel_13_0 := by decide +kernel
theorem dX1_lambda_cancel_13_0 : decode cX1_lambda_cancel_13 0 = .ok (.aload_n 1, 1) := dk_43 (dk_at dksX1_lambda_cancel_13_0 0 rfl rfl)
theorem dX1_lambda_cancel_13_1 : decode cX1_lambda_cancel_13 1 = .ok (.iload_n 0, 1) := dk_26 (dk_at dksX1_lambda_cancel_13_0 1 rfl rfl)
theorem dX1_lambda_cancel_13_2 : decode cX1_lambda_cancel_13 2 = .ok (.invokevirtual 417, 3) := dk_182 1 161 (dk_at dksX1_lambda_cancel_13_0 2 rfl rfl)
theorem dX1_lambda_cancel_13_5 : decode cX1_lambda_cancel_13 5 = .ok (.ireturn, 1) := dk_172 (dk_at dksX1_lambda_cancel_13_0 5 rfl rfl)
abbrev cX1_partyOf : ByteArray := prog_1_method_38_code
def yX1_partyOf : MethodName := ⟨RX1, "partyOf", "(II)I"⟩
def dkwX1_partyOf_2 : List UInt8 := [167, 0, 7, 45, 180, 1, 14, 172]
abbrev dktX1_partyOf_2 : List UInt8 := dkwX1_partyOf_2 ++ []
def dkwX1_partyOf_1 : List UInt8 := [167, 0, 31, 28, 4, 160, 0, 10, 45, 180, 1, 10, 167, 0, 19, 28, 5, 160, 0, 10, 45, 180, 1, 13]
abbrev dktX1_partyOf_1 : List UInt8 := dkwX1_partyOf_1 ++ dktX1_partyOf_2
def dkwX1_partyOf_0 : List UInt8 := [42, 27, 182, 1, 2, 78, 28, 3, 6, 184, 0, 3, 184, 0, 136, 28, 154, 0, 10, 45, 180, 1, 7]
abbrev dktX1_partyOf_0 : List UInt8 := dkwX1_partyOf_0 ++ dktX1_partyOf_1
theorem dksX1_partyOf_0 : cX1_partyOf.data.toList.drop 0 = dktX1_partyOf_0 := by decide +kernel
theorem dksX1_partyOf_1 : cX1_partyOf.data.toList.drop 23 = dktX1_partyOf_1 := dk_seg dksX1_partyOf_0 23 rfl rfl
theorem dksX1_partyOf_2 : cX1_partyOf.data.toList.drop 47 = dktX1_partyOf_2 := dk_seg dksX1_partyOf_1 24 rfl rfl
theorem dX1_partyOf_0 : decode cX1_partyOf 0 = .ok (.aload_n 0, 1) := dk_42 (dk_at dksX1_partyOf_0 0 rfl rfl)
theorem dX1_partyOf_1 : decode cX1_partyOf 1 = .ok (.iload_n 1, 1) := dk_27 (dk_at dksX1_partyOf_0 1 rfl rfl)
theorem dX1_partyOf_2 : decode cX1_partyOf 2 = .ok (.invokevirtual 258, 3) := dk_182 1 2 (dk_at dksX1_partyOf_0 2 rfl rfl)
theorem dX1_partyOf_5 : decode cX1_partyOf 5 = .ok (.astore_n 3, 1) := dk_78 (dk_at dksX1_partyOf_0 5 rfl rfl)
theorem dX1_partyOf_6 : decode cX1_partyOf 6 = .ok (.iload_n 2, 1) := dk_28 (dk_at dksX1_partyOf_0 6 rfl rfl)
theorem dX1_partyOf_7 : decode cX1_partyOf 7 = .ok (.iconst 0, 1) := dk_3 (dk_at dksX1_partyOf_0 7 rfl rfl)
theorem dX1_partyOf_8 : decode cX1_partyOf 8 = .ok (.iconst 3, 1) := dk_6 (dk_at dksX1_partyOf_0 8 rfl rfl)
theorem dX1_partyOf_9 : decode cX1_partyOf 9 = .ok (.invokestatic 3, 3) := dk_184 0 3 (dk_at dksX1_partyOf_0 9 rfl rfl)
theorem dX1_partyOf_12 : decode cX1_partyOf 12 = .ok (.invokestatic 136, 3) := dk_184 0 136 (dk_at dksX1_partyOf_0 12 rfl rfl)
theorem dX1_partyOf_15 : decode cX1_partyOf 15 = .ok (.iload_n 2, 1) := dk_28 (dk_at dksX1_partyOf_0 15 rfl rfl)
theorem dX1_partyOf_16 : decode cX1_partyOf 16 = .ok (.ifCond .ne 10, 3) := dk_154 0 10 (dk_at dksX1_partyOf_0 16 rfl rfl)
theorem dX1_partyOf_19 : decode cX1_partyOf 19 = .ok (.aload_n 3, 1) := dk_45 (dk_at dksX1_partyOf_0 19 rfl rfl)
theorem dX1_partyOf_20 : decode cX1_partyOf 20 = .ok (.getfield 263, 3) := dk_180 1 7 (dk_at dksX1_partyOf_0 20 rfl rfl)
theorem dX1_partyOf_23 : decode cX1_partyOf 23 = .ok (.goto 31, 3) := dk_167 0 31 (dk_at dksX1_partyOf_1 0 rfl rfl)
theorem dX1_partyOf_26 : decode cX1_partyOf 26 = .ok (.iload_n 2, 1) := dk_28 (dk_at dksX1_partyOf_1 3 rfl rfl)
theorem dX1_partyOf_27 : decode cX1_partyOf 27 = .ok (.iconst 1, 1) := dk_4 (dk_at dksX1_partyOf_1 4 rfl rfl)
theorem dX1_partyOf_28 : decode cX1_partyOf 28 = .ok (.if_icmp .ne 10, 3) := dk_160 0 10 (dk_at dksX1_partyOf_1 5 rfl rfl)
theorem dX1_partyOf_31 : decode cX1_partyOf 31 = .ok (.aload_n 3, 1) := dk_45 (dk_at dksX1_partyOf_1 8 rfl rfl)
theorem dX1_partyOf_32 : decode cX1_partyOf 32 = .ok (.getfield 266, 3) := dk_180 1 10 (dk_at dksX1_partyOf_1 9 rfl rfl)
theorem dX1_partyOf_35 : decode cX1_partyOf 35 = .ok (.goto 19, 3) := dk_167 0 19 (dk_at dksX1_partyOf_1 12 rfl rfl)
theorem dX1_partyOf_38 : decode cX1_partyOf 38 = .ok (.iload_n 2, 1) := dk_28 (dk_at dksX1_partyOf_1 15 rfl rfl)
theorem dX1_partyOf_39 : decode cX1_partyOf 39 = .ok (.iconst 2, 1) := dk_5 (dk_at dksX1_partyOf_1 16 rfl rfl)
theorem dX1_partyOf_40 : decode cX1_partyOf 40 = .ok (.if_icmp .ne 10, 3) := dk_160 0 10 (dk_at dksX1_partyOf_1 17 rfl rfl)
theorem dX1_partyOf_43 : decode cX1_partyOf 43 = .ok (.aload_n 3, 1) := dk_45 (dk_at dksX1_partyOf_1 20 rfl rfl)
theorem dX1_partyOf_44 : decode cX1_partyOf 44 = .ok (.getfield 269, 3) := dk_180 1 13 (dk_at dksX1_partyOf_1 21 rfl rfl)
theorem dX1_partyOf_47 : decode cX1_partyOf 47 = .ok (.goto 7, 3) := dk_167 0 7 (dk_at dksX1_partyOf_2 0 rfl rfl)
theorem dX1_partyOf_50 : decode cX1_partyOf 50 = .ok (.aload_n 3, 1) := dk_45 (dk_at dksX1_partyOf_2 3 rfl rfl)
theorem dX1_partyOf_51 : decode cX1_partyOf 51 = .ok (.getfield 270, 3) := dk_180 1 14 (dk_at dksX1_partyOf_2 4 rfl rfl)
theorem dX1_partyOf_54 : decode cX1_partyOf 54 = .ok (.ireturn, 1) := dk_172 (dk_at dksX1_partyOf_2 7 rfl rfl)
abbrev cX1_nextParty : ByteArray := prog_1_method_39_code
def yX1_nextParty : MethodName := ⟨RX1, "nextParty", "()I"⟩
def dkwX1_nextParty_0 : List UInt8 := [42, 180, 0, 39, 182, 1, 17, 60, 27, 2, 159, 0, 7, 4, 167, 0, 4, 3, 184, 0, 175, 27, 172]
abbrev dktX1_nextParty_0 : List UInt8 := dkwX1_nextParty_0 ++ []
theorem dksX1_nextParty_0 : cX1_nextParty.data.toList.drop 0 = dktX1_nextParty_0 := by decide +kernel
theorem dX1_nextParty_0 : decode cX1_nextParty 0 = .ok (.aload_n 0, 1) := dk_42 (dk_at dksX1_nextParty_0 0 rfl rfl)
theorem dX1_nextParty_1 : decode cX1_nextParty 1 = .ok (.getfield 39, 3) := dk_180 0 39 (dk_at dksX1_nextParty_0 1 rfl rfl)
theorem dX1_nextParty_4 : decode cX1_nextParty 4 = .ok (.invokevirtual 273, 3) := dk_182 1 17 (dk_at dksX1_nextParty_0 4 rfl rfl)
theorem dX1_nextParty_7 : decode cX1_nextParty 7 = .ok (.istore_n 1, 1) := dk_60 (dk_at dksX1_nextParty_0 7 rfl rfl)
theorem dX1_nextParty_8 : decode cX1_nextParty 8 = .ok (.iload_n 1, 1) := dk_27 (dk_at dksX1_nextParty_0 8 rfl rfl)
theorem dX1_nextParty_9 : decode cX1_nextParty 9 = .ok (.iconst (-1), 1) := dk_2 (dk_at dksX1_nextParty_0 9 rfl rfl)
theorem dX1_nextParty_10 : decode cX1_nextParty 10 = .ok (.if_icmp .eq 7, 3) := dk_159 0 7 (dk_at dksX1_nextParty_0 10 rfl rfl)
theorem dX1_nextParty_13 : decode cX1_nextParty 13 = .ok (.iconst 1, 1) := dk_4 (dk_at dksX1_nextParty_0 13 rfl rfl)
theorem dX1_nextParty_14 : decode cX1_nextParty 14 = .ok (.goto 4, 3) := dk_167 0 4 (dk_at dksX1_nextParty_0 14 rfl rfl)
theorem dX1_nextParty_17 : decode cX1_nextParty 17 = .ok (.iconst 0, 1) := dk_3 (dk_at dksX1_nextParty_0 17 rfl rfl)
theorem dX1_nextParty_18 : decode cX1_nextParty 18 = .ok (.invokestatic 175, 3) := dk_184 0 175 (dk_at dksX1_nextParty_0 18 rfl rfl)
theorem dX1_nextParty_21 : decode cX1_nextParty 21 = .ok (.iload_n 1, 1) := dk_27 (dk_at dksX1_nextParty_0 21 rfl rfl)
theorem dX1_nextParty_22 : decode cX1_nextParty 22 = .ok (.ireturn, 1) := dk_172 (dk_at dksX1_nextParty_0 22 rfl rfl)
abbrev cX1_pass : ByteArray := prog_1_method_40_code
def yX1_pass : MethodName := ⟨RX1, "pass", "(I)I"⟩
def dkwX1_pass_0 : List UInt8 := [27, 4, 16, 60, 184, 0, 3, 184, 0, 136, 42, 27, 186, 1, 20, 0, 0, 182, 0, 122, 172]
abbrev dktX1_pass_0 : List UInt8 := dkwX1_pass_0 ++ []
theorem dksX1_pass_0 : cX1_pass.data.toList.drop 0 = dktX1_pass_0 := by decide +kernel
theorem dX1_pass_0 : decode cX1_pass 0 = .ok (.iload_n 1, 1) := dk_27 (dk_at dksX1_pass_0 0 rfl rfl)
theorem dX1_pass_1 : decode cX1_pass 1 = .ok (.iconst 1, 1) := dk_4 (dk_at dksX1_pass_0 1 rfl rfl)
theorem dX1_pass_2 : decode cX1_pass 2 = .ok (.bipush 60, 2) := dk_16 60 (dk_at dksX1_pass_0 2 rfl rfl)
theorem dX1_pass_4 : decode cX1_pass 4 = .ok (.invokestatic 3, 3) := dk_184 0 3 (dk_at dksX1_pass_0 4 rfl rfl)
theorem dX1_pass_7 : decode cX1_pass 7 = .ok (.invokestatic 136, 3) := dk_184 0 136 (dk_at dksX1_pass_0 7 rfl rfl)
theorem dX1_pass_10 : decode cX1_pass 10 = .ok (.aload_n 0, 1) := dk_42 (dk_at dksX1_pass_0 10 rfl rfl)
theorem dX1_pass_11 : decode cX1_pass 11 = .ok (.iload_n 1, 1) := dk_27 (dk_at dksX1_pass_0 11 rfl rfl)
theorem dX1_pass_12 : decode cX1_pass 12 = .ok (.invokedynamic 276, 5) := by decide +kernel
theorem dX1_pass_17 : decode cX1_pass 17 = .ok (.invokevirtual 122, 3) := dk_182 0 122 (dk_at dksX1_pass_0 17 rfl rfl)
theorem dX1_pass_20 : decode cX1_pass 20 = .ok (.ireturn, 1) := dk_172 (dk_at dksX1_pass_0 20 rfl rfl)
abbrev cX1_lambda_pass_14 : ByteArray := prog_1_method_58_code
def yX1_lambda_pass_14 : MethodName := ⟨RX1, "lambda$pass$14", "(ILJumpHall$Hall;)I"⟩
def dkwX1_lambda_pass_14_0 : List UInt8 := [43, 26, 182, 1, 158, 172]
abbrev dktX1_lambda_pass_14_0 : List UInt8 := dkwX1_lambda_pass_14_0 ++ []
theorem dksX1_lambda_pass_14_0 : cX1_lambda_pass_14.data.toList.drop 0 = dktX1_lambda_pass_14_0 := by decide +kernel
theorem dX1_lambda_pass_14_0 : decode cX1_lambda_pass_14 0 = .ok (.aload_n 1, 1) := dk_43 (dk_at dksX1_lambda_pass_14_0 0 rfl rfl)
theorem dX1_lambda_pass_14_1 : decode cX1_lambda_pass_14 1 = .ok (.iload_n 0, 1) := dk_26 (dk_at dksX1_lambda_pass_14_0 1 rfl rfl)
theorem dX1_lambda_pass_14_2 : decode cX1_lambda_pass_14 2 = .ok (.invokevirtual 414, 3) := dk_182 1 158 (dk_at dksX1_lambda_pass_14_0 2 rfl rfl)
theorem dX1_lambda_pass_14_5 : decode cX1_lambda_pass_14 5 = .ok (.ireturn, 1) := dk_172 (dk_at dksX1_lambda_pass_14_0 5 rfl rfl)
abbrev cX1_tell : ByteArray := prog_1_method_41_code
def yX1_tell : MethodName := ⟨RX1, "tell", "(I)I"⟩
def dkwX1_tell_6 : List UInt8 := [182, 1, 59, 87, 42, 180, 0, 57, 182, 1, 62, 172]
abbrev dktX1_tell_6 : List UInt8 := dkwX1_tell_6 ++ []
def dkwX1_tell_5 : List UInt8 := [167, 255, 209, 42, 180, 0, 57, 44, 180, 0, 148, 153, 0, 9, 19, 1, 55, 167, 0, 6, 19, 1, 57]
abbrev dktX1_tell_5 : List UInt8 := dkwX1_tell_5 ++ dktX1_tell_6
def dkwX1_tell_4 : List UInt8 := [182, 1, 46, 153, 0, 21, 42, 180, 0, 57, 16, 124, 182, 1, 28, 25, 4, 180, 1, 49, 182, 1, 52, 87]
abbrev dktX1_tell_4 : List UInt8 := dkwX1_tell_4 ++ dktX1_tell_5
def dkwX1_tell_3 : List UInt8 := [185, 1, 36, 1, 0, 153, 0, 44, 45, 185, 1, 42, 1, 0, 192, 0, 112, 58, 4, 25, 4, 27]
abbrev dktX1_tell_3 : List UInt8 := dkwX1_tell_3 ++ dktX1_tell_4
def dkwX1_tell_2 : List UInt8 := [96, 146, 182, 1, 28, 87, 132, 3, 1, 167, 255, 216, 42, 180, 0, 39, 180, 0, 109, 182, 1, 32, 78, 45]
abbrev dktX1_tell_2 : List UInt8 := dkwX1_tell_2 ++ dktX1_tell_3
def dkwX1_tell_1 : List UInt8 := [180, 0, 57, 44, 29, 182, 1, 25, 153, 0, 8, 16, 42, 167, 0, 13, 16, 48, 44, 180, 0, 171, 29, 46]
abbrev dktX1_tell_1 : List UInt8 := dkwX1_tell_1 ++ dktX1_tell_2
def dkwX1_tell_0 : List UInt8 := [42, 27, 182, 0, 129, 77, 42, 180, 0, 57, 3, 182, 1, 21, 3, 62, 29, 16, 8, 162, 0, 40, 42]
abbrev dktX1_tell_0 : List UInt8 := dkwX1_tell_0 ++ dktX1_tell_1
theorem dksX1_tell_0 : cX1_tell.data.toList.drop 0 = dktX1_tell_0 := by decide +kernel
theorem dksX1_tell_1 : cX1_tell.data.toList.drop 23 = dktX1_tell_1 := dk_seg dksX1_tell_0 23 rfl rfl
theorem dksX1_tell_2 : cX1_tell.data.toList.drop 47 = dktX1_tell_2 := dk_seg dksX1_tell_1 24 rfl rfl
theorem dksX1_tell_3 : cX1_tell.data.toList.drop 71 = dktX1_tell_3 := dk_seg dksX1_tell_2 24 rfl rfl
theorem dksX1_tell_4 : cX1_tell.data.toList.drop 93 = dktX1_tell_4 := dk_seg dksX1_tell_3 22 rfl rfl
theorem dksX1_tell_5 : cX1_tell.data.toList.drop 117 = dktX1_tell_5 := dk_seg dksX1_tell_4 24 rfl rfl
theorem dksX1_tell_6 : cX1_tell.data.toList.drop 140 = dktX1_tell_6 := dk_seg dksX1_tell_5 23 rfl rfl
theorem dX1_tell_0 : decode cX1_tell 0 = .ok (.aload_n 0, 1) := dk_42 (dk_at dksX1_tell_0 0 rfl rfl)
theorem dX1_tell_1 : decode cX1_tell 1 = .ok (.iload_n 1, 1) := dk_27 (dk_at dksX1_tell_0 1 rfl rfl)
theorem dX1_tell_2 : decode cX1_tell 2 = .ok (.invokevirtual 129, 3) := dk_182 0 129 (dk_at dksX1_tell_0 2 rfl rfl)
theorem dX1_tell_5 : decode cX1_tell 5 = .ok (.astore_n 2, 1) := dk_77 (dk_at dksX1_tell_0 5 rfl rfl)
theorem dX1_tell_6 : decode cX1_tell 6 = .ok (.aload_n 0, 1) := dk_42 (dk_at dksX1_tell_0 6 rfl rfl)
theorem dX1_tell_7 : decode cX1_tell 7 = .ok (.getfield 57, 3) := dk_180 0 57 (dk_at dksX1_tell_0 7 rfl rfl)
theorem dX1_tell_10 : decode cX1_tell 10 = .ok (.iconst 0, 1) := dk_3 (dk_at dksX1_tell_0 10 rfl rfl)
theorem dX1_tell_11 : decode cX1_tell 11 = .ok (.invokevirtual 277, 3) := dk_182 1 21 (dk_at dksX1_tell_0 11 rfl rfl)
theorem dX1_tell_14 : decode cX1_tell 14 = .ok (.iconst 0, 1) := dk_3 (dk_at dksX1_tell_0 14 rfl rfl)
theorem dX1_tell_15 : decode cX1_tell 15 = .ok (.istore_n 3, 1) := dk_62 (dk_at dksX1_tell_0 15 rfl rfl)
theorem dX1_tell_16 : decode cX1_tell 16 = .ok (.iload_n 3, 1) := dk_29 (dk_at dksX1_tell_0 16 rfl rfl)
theorem dX1_tell_17 : decode cX1_tell 17 = .ok (.bipush 8, 2) := dk_16 8 (dk_at dksX1_tell_0 17 rfl rfl)
theorem dX1_tell_19 : decode cX1_tell 19 = .ok (.if_icmp .ge 40, 3) := dk_162 0 40 (dk_at dksX1_tell_0 19 rfl rfl)
theorem dX1_tell_22 : decode cX1_tell 22 = .ok (.aload_n 0, 1) := dk_42 (dk_at dksX1_tell_0 22 rfl rfl)
theorem dX1_tell_23 : decode cX1_tell 23 = .ok (.getfield 57, 3) := dk_180 0 57 (dk_at dksX1_tell_1 0 rfl rfl)
theorem dX1_tell_26 : decode cX1_tell 26 = .ok (.aload_n 2, 1) := dk_44 (dk_at dksX1_tell_1 3 rfl rfl)
theorem dX1_tell_27 : decode cX1_tell 27 = .ok (.iload_n 3, 1) := dk_29 (dk_at dksX1_tell_1 4 rfl rfl)
theorem dX1_tell_28 : decode cX1_tell 28 = .ok (.invokevirtual 281, 3) := dk_182 1 25 (dk_at dksX1_tell_1 5 rfl rfl)
theorem dX1_tell_31 : decode cX1_tell 31 = .ok (.ifCond .eq 8, 3) := dk_153 0 8 (dk_at dksX1_tell_1 8 rfl rfl)
theorem dX1_tell_34 : decode cX1_tell 34 = .ok (.bipush 42, 2) := dk_16 42 (dk_at dksX1_tell_1 11 rfl rfl)
theorem dX1_tell_36 : decode cX1_tell 36 = .ok (.goto 13, 3) := dk_167 0 13 (dk_at dksX1_tell_1 13 rfl rfl)
theorem dX1_tell_39 : decode cX1_tell 39 = .ok (.bipush 48, 2) := dk_16 48 (dk_at dksX1_tell_1 16 rfl rfl)
theorem dX1_tell_41 : decode cX1_tell 41 = .ok (.aload_n 2, 1) := dk_44 (dk_at dksX1_tell_1 18 rfl rfl)
theorem dX1_tell_42 : decode cX1_tell 42 = .ok (.getfield 171, 3) := dk_180 0 171 (dk_at dksX1_tell_1 19 rfl rfl)
theorem dX1_tell_45 : decode cX1_tell 45 = .ok (.iload_n 3, 1) := dk_29 (dk_at dksX1_tell_1 22 rfl rfl)
theorem dX1_tell_46 : decode cX1_tell 46 = .ok (.iaload, 1) := dk_46 (dk_at dksX1_tell_1 23 rfl rfl)
theorem dX1_tell_47 : decode cX1_tell 47 = .ok (.iadd, 1) := dk_96 (dk_at dksX1_tell_2 0 rfl rfl)
theorem dX1_tell_48 : decode cX1_tell 48 = .ok (.i2c, 1) := dk_146 (dk_at dksX1_tell_2 1 rfl rfl)
theorem dX1_tell_49 : decode cX1_tell 49 = .ok (.invokevirtual 284, 3) := dk_182 1 28 (dk_at dksX1_tell_2 2 rfl rfl)
theorem dX1_tell_52 : decode cX1_tell 52 = .ok (.pop, 1) := dk_87 (dk_at dksX1_tell_2 5 rfl rfl)
theorem dX1_tell_53 : decode cX1_tell 53 = .ok (.iinc 3 1, 3) := dk_132 3 1 (dk_at dksX1_tell_2 6 rfl rfl)
theorem dX1_tell_56 : decode cX1_tell 56 = .ok (.goto (-40), 3) := dk_167 255 216 (dk_at dksX1_tell_2 9 rfl rfl)
theorem dX1_tell_59 : decode cX1_tell 59 = .ok (.aload_n 0, 1) := dk_42 (dk_at dksX1_tell_2 12 rfl rfl)
theorem dX1_tell_60 : decode cX1_tell 60 = .ok (.getfield 39, 3) := dk_180 0 39 (dk_at dksX1_tell_2 13 rfl rfl)
theorem dX1_tell_63 : decode cX1_tell 63 = .ok (.getfield 109, 3) := dk_180 0 109 (dk_at dksX1_tell_2 16 rfl rfl)
theorem dX1_tell_66 : decode cX1_tell 66 = .ok (.invokevirtual 288, 3) := dk_182 1 32 (dk_at dksX1_tell_2 19 rfl rfl)
theorem dX1_tell_69 : decode cX1_tell 69 = .ok (.astore_n 3, 1) := dk_78 (dk_at dksX1_tell_2 22 rfl rfl)
theorem dX1_tell_70 : decode cX1_tell 70 = .ok (.aload_n 3, 1) := dk_45 (dk_at dksX1_tell_2 23 rfl rfl)
theorem dX1_tell_71 : decode cX1_tell 71 = .ok (.invokeinterface 292 1, 5) := by decide +kernel
theorem dX1_tell_76 : decode cX1_tell 76 = .ok (.ifCond .eq 44, 3) := dk_153 0 44 (dk_at dksX1_tell_3 5 rfl rfl)
theorem dX1_tell_79 : decode cX1_tell 79 = .ok (.aload_n 3, 1) := dk_45 (dk_at dksX1_tell_3 8 rfl rfl)
theorem dX1_tell_80 : decode cX1_tell 80 = .ok (.invokeinterface 298 1, 5) := by decide +kernel
theorem dX1_tell_85 : decode cX1_tell 85 = .ok (.checkcast 112, 3) := dk_192 0 112 (dk_at dksX1_tell_3 14 rfl rfl)
theorem dX1_tell_88 : decode cX1_tell 88 = .ok (.astore 4, 2) := dk_58 4 (dk_at dksX1_tell_3 17 rfl rfl)
theorem dX1_tell_90 : decode cX1_tell 90 = .ok (.aload 4, 2) := dk_25 4 (dk_at dksX1_tell_3 19 rfl rfl)
theorem dX1_tell_92 : decode cX1_tell 92 = .ok (.iload_n 1, 1) := dk_27 (dk_at dksX1_tell_3 21 rfl rfl)
theorem dX1_tell_93 : decode cX1_tell 93 = .ok (.invokevirtual 302, 3) := dk_182 1 46 (dk_at dksX1_tell_4 0 rfl rfl)
theorem dX1_tell_96 : decode cX1_tell 96 = .ok (.ifCond .eq 21, 3) := dk_153 0 21 (dk_at dksX1_tell_4 3 rfl rfl)
theorem dX1_tell_99 : decode cX1_tell 99 = .ok (.aload_n 0, 1) := dk_42 (dk_at dksX1_tell_4 6 rfl rfl)
theorem dX1_tell_100 : decode cX1_tell 100 = .ok (.getfield 57, 3) := dk_180 0 57 (dk_at dksX1_tell_4 7 rfl rfl)
theorem dX1_tell_103 : decode cX1_tell 103 = .ok (.bipush 124, 2) := dk_16 124 (dk_at dksX1_tell_4 10 rfl rfl)
theorem dX1_tell_105 : decode cX1_tell 105 = .ok (.invokevirtual 284, 3) := dk_182 1 28 (dk_at dksX1_tell_4 12 rfl rfl)
theorem dX1_tell_108 : decode cX1_tell 108 = .ok (.aload 4, 2) := dk_25 4 (dk_at dksX1_tell_4 15 rfl rfl)
theorem dX1_tell_110 : decode cX1_tell 110 = .ok (.getfield 305, 3) := dk_180 1 49 (dk_at dksX1_tell_4 17 rfl rfl)
theorem dX1_tell_113 : decode cX1_tell 113 = .ok (.invokevirtual 308, 3) := dk_182 1 52 (dk_at dksX1_tell_4 20 rfl rfl)
theorem dX1_tell_116 : decode cX1_tell 116 = .ok (.pop, 1) := dk_87 (dk_at dksX1_tell_4 23 rfl rfl)
theorem dX1_tell_117 : decode cX1_tell 117 = .ok (.goto (-47), 3) := dk_167 255 209 (dk_at dksX1_tell_5 0 rfl rfl)
theorem dX1_tell_120 : decode cX1_tell 120 = .ok (.aload_n 0, 1) := dk_42 (dk_at dksX1_tell_5 3 rfl rfl)
theorem dX1_tell_121 : decode cX1_tell 121 = .ok (.getfield 57, 3) := dk_180 0 57 (dk_at dksX1_tell_5 4 rfl rfl)
theorem dX1_tell_124 : decode cX1_tell 124 = .ok (.aload_n 2, 1) := dk_44 (dk_at dksX1_tell_5 7 rfl rfl)
theorem dX1_tell_125 : decode cX1_tell 125 = .ok (.getfield 148, 3) := dk_180 0 148 (dk_at dksX1_tell_5 8 rfl rfl)
theorem dX1_tell_128 : decode cX1_tell 128 = .ok (.ifCond .eq 9, 3) := dk_153 0 9 (dk_at dksX1_tell_5 11 rfl rfl)
theorem dX1_tell_131 : decode cX1_tell 131 = .ok (.ldc_w 311, 3) := dk_19 1 55 (dk_at dksX1_tell_5 14 rfl rfl)
theorem dX1_tell_134 : decode cX1_tell 134 = .ok (.goto 6, 3) := dk_167 0 6 (dk_at dksX1_tell_5 17 rfl rfl)
theorem dX1_tell_137 : decode cX1_tell 137 = .ok (.ldc_w 313, 3) := dk_19 1 57 (dk_at dksX1_tell_5 20 rfl rfl)
theorem dX1_tell_140 : decode cX1_tell 140 = .ok (.invokevirtual 315, 3) := dk_182 1 59 (dk_at dksX1_tell_6 0 rfl rfl)
theorem dX1_tell_143 : decode cX1_tell 143 = .ok (.pop, 1) := dk_87 (dk_at dksX1_tell_6 3 rfl rfl)
theorem dX1_tell_144 : decode cX1_tell 144 = .ok (.aload_n 0, 1) := dk_42 (dk_at dksX1_tell_6 4 rfl rfl)
theorem dX1_tell_145 : decode cX1_tell 145 = .ok (.getfield 57, 3) := dk_180 0 57 (dk_at dksX1_tell_6 5 rfl rfl)
theorem dX1_tell_148 : decode cX1_tell 148 = .ok (.invokevirtual 318, 3) := dk_182 1 62 (dk_at dksX1_tell_6 8 rfl rfl)
theorem dX1_tell_151 : decode cX1_tell 151 = .ok (.ireturn, 1) := dk_172 (dk_at dksX1_tell_6 11 rfl rfl)
abbrev cX1_character : ByteArray := prog_1_method_42_code
def yX1_character : MethodName := ⟨RX1, "character", "(I)C"⟩
def dkwX1_character_1 : List UInt8 := [182, 1, 65, 172]
abbrev dktX1_character_1 : List UInt8 := dkwX1_character_1 ++ []
def dkwX1_character_0 : List UInt8 := [27, 3, 42, 180, 0, 57, 182, 1, 62, 4, 100, 184, 0, 3, 184, 0, 175, 42, 180, 0, 57, 27]
abbrev dktX1_character_0 : List UInt8 := dkwX1_character_0 ++ dktX1_character_1
theorem dksX1_character_0 : cX1_character.data.toList.drop 0 = dktX1_character_0 := by decide +kernel
theorem dksX1_character_1 : cX1_character.data.toList.drop 22 = dktX1_character_1 := dk_seg dksX1_character_0 22 rfl rfl
theorem dX1_character_0 : decode cX1_character 0 = .ok (.iload_n 1, 1) := dk_27 (dk_at dksX1_character_0 0 rfl rfl)
theorem dX1_character_1 : decode cX1_character 1 = .ok (.iconst 0, 1) := dk_3 (dk_at dksX1_character_0 1 rfl rfl)
theorem dX1_character_2 : decode cX1_character 2 = .ok (.aload_n 0, 1) := dk_42 (dk_at dksX1_character_0 2 rfl rfl)
theorem dX1_character_3 : decode cX1_character 3 = .ok (.getfield 57, 3) := dk_180 0 57 (dk_at dksX1_character_0 3 rfl rfl)
theorem dX1_character_6 : decode cX1_character 6 = .ok (.invokevirtual 318, 3) := dk_182 1 62 (dk_at dksX1_character_0 6 rfl rfl)
theorem dX1_character_9 : decode cX1_character 9 = .ok (.iconst 1, 1) := dk_4 (dk_at dksX1_character_0 9 rfl rfl)
theorem dX1_character_10 : decode cX1_character 10 = .ok (.isub, 1) := dk_100 (dk_at dksX1_character_0 10 rfl rfl)
theorem dX1_character_11 : decode cX1_character 11 = .ok (.invokestatic 3, 3) := dk_184 0 3 (dk_at dksX1_character_0 11 rfl rfl)
theorem dX1_character_14 : decode cX1_character 14 = .ok (.invokestatic 175, 3) := dk_184 0 175 (dk_at dksX1_character_0 14 rfl rfl)
theorem dX1_character_17 : decode cX1_character 17 = .ok (.aload_n 0, 1) := dk_42 (dk_at dksX1_character_0 17 rfl rfl)
theorem dX1_character_18 : decode cX1_character 18 = .ok (.getfield 57, 3) := dk_180 0 57 (dk_at dksX1_character_0 18 rfl rfl)
theorem dX1_character_21 : decode cX1_character 21 = .ok (.iload_n 1, 1) := dk_27 (dk_at dksX1_character_0 21 rfl rfl)
theorem dX1_character_22 : decode cX1_character 22 = .ok (.invokevirtual 321, 3) := dk_182 1 65 (dk_at dksX1_character_1 0 rfl rfl)
theorem dX1_character_25 : decode cX1_character 25 = .ok (.ireturn, 1) := dk_172 (dk_at dksX1_character_1 3 rfl rfl)
abbrev cX1_meanWeight : ByteArray := prog_1_method_43_code
def yX1_meanWeight : MethodName := ⟨RX1, "meanWeight", "()F"⟩
def dkwX1_meanWeight_1 : List UInt8 := [186, 1, 75, 0, 0, 182, 1, 76, 134, 27, 134, 110, 174]
abbrev dktX1_meanWeight_1 : List UInt8 := dkwX1_meanWeight_1 ++ []
def dkwX1_meanWeight_0 : List UInt8 := [42, 180, 0, 39, 186, 1, 69, 0, 0, 182, 0, 156, 60, 27, 184, 1, 72, 42, 180, 0, 39]
abbrev dktX1_meanWeight_0 : List UInt8 := dkwX1_meanWeight_0 ++ dktX1_meanWeight_1
theorem dksX1_meanWeight_0 : cX1_meanWeight.data.toList.drop 0 = dktX1_meanWeight_0 := by decide +kernel
theorem dksX1_meanWeight_1 : cX1_meanWeight.data.toList.drop 21 = dktX1_meanWeight_1 := dk_seg dksX1_meanWeight_0 21 rfl rfl
theorem dX1_meanWeight_0 : decode cX1_meanWeight 0 = .ok (.aload_n 0, 1) := dk_42 (dk_at dksX1_meanWeight_0 0 rfl rfl)
theorem dX1_meanWeight_1 : decode cX1_meanWeight 1 = .ok (.getfield 39, 3) := dk_180 0 39 (dk_at dksX1_meanWeight_0 1 rfl rfl)
theorem dX1_meanWeight_4 : decode cX1_meanWeight 4 = .ok (.invokedynamic 325, 5) := by decide +kernel
theorem dX1_meanWeight_9 : decode cX1_meanWeight 9 = .ok (.invokevirtual 156, 3) := dk_182 0 156 (dk_at dksX1_meanWeight_0 9 rfl rfl)
theorem dX1_meanWeight_12 : decode cX1_meanWeight 12 = .ok (.istore_n 1, 1) := dk_60 (dk_at dksX1_meanWeight_0 12 rfl rfl)
theorem dX1_meanWeight_13 : decode cX1_meanWeight 13 = .ok (.iload_n 1, 1) := dk_27 (dk_at dksX1_meanWeight_0 13 rfl rfl)
theorem dX1_meanWeight_14 : decode cX1_meanWeight 14 = .ok (.invokestatic 328, 3) := dk_184 1 72 (dk_at dksX1_meanWeight_0 14 rfl rfl)
theorem dX1_meanWeight_17 : decode cX1_meanWeight 17 = .ok (.aload_n 0, 1) := dk_42 (dk_at dksX1_meanWeight_0 17 rfl rfl)
theorem dX1_meanWeight_18 : decode cX1_meanWeight 18 = .ok (.getfield 39, 3) := dk_180 0 39 (dk_at dksX1_meanWeight_0 18 rfl rfl)
theorem dX1_meanWeight_21 : decode cX1_meanWeight 21 = .ok (.invokedynamic 331, 5) := by decide +kernel
theorem dX1_meanWeight_26 : decode cX1_meanWeight 26 = .ok (.invokevirtual 332, 3) := dk_182 1 76 (dk_at dksX1_meanWeight_1 5 rfl rfl)
theorem dX1_meanWeight_29 : decode cX1_meanWeight 29 = .ok (.i2f, 1) := dk_134 (dk_at dksX1_meanWeight_1 8 rfl rfl)
theorem dX1_meanWeight_30 : decode cX1_meanWeight 30 = .ok (.iload_n 1, 1) := dk_27 (dk_at dksX1_meanWeight_1 9 rfl rfl)
theorem dX1_meanWeight_31 : decode cX1_meanWeight 31 = .ok (.i2f, 1) := dk_134 (dk_at dksX1_meanWeight_1 10 rfl rfl)
theorem dX1_meanWeight_32 : decode cX1_meanWeight 32 = .ok (.fdiv, 1) := dk_110 (dk_at dksX1_meanWeight_1 11 rfl rfl)
theorem dX1_meanWeight_33 : decode cX1_meanWeight 33 = .ok (.freturn, 1) := dk_174 (dk_at dksX1_meanWeight_1 12 rfl rfl)
abbrev cX1_lambda_meanWeight_15 : ByteArray := prog_1_method_57_code
def yX1_lambda_meanWeight_15 : MethodName := ⟨RX1, "lambda$meanWeight$15", "(LJumpHall$Jumper;)Z"⟩
def dkwX1_lambda_meanWeight_15_0 : List UInt8 := [42, 182, 1, 155, 154, 0, 7, 4, 167, 0, 4, 3, 172]
abbrev dktX1_lambda_meanWeight_15_0 : List UInt8 := dkwX1_lambda_meanWeight_15_0 ++ []
theorem dksX1_lambda_meanWeight_15_0 : cX1_lambda_meanWeight_15.data.toList.drop 0 = dktX1_lambda_meanWeight_15_0 := by decide +kernel
theorem dX1_lambda_meanWeight_15_0 : decode cX1_lambda_meanWeight_15 0 = .ok (.aload_n 0, 1) := dk_42 (dk_at dksX1_lambda_meanWeight_15_0 0 rfl rfl)
theorem dX1_lambda_meanWeight_15_1 : decode cX1_lambda_meanWeight_15 1 = .ok (.invokevirtual 411, 3) := dk_182 1 155 (dk_at dksX1_lambda_meanWeight_15_0 1 rfl rfl)
theorem dX1_lambda_meanWeight_15_4 : decode cX1_lambda_meanWeight_15 4 = .ok (.ifCond .ne 7, 3) := dk_154 0 7 (dk_at dksX1_lambda_meanWeight_15_0 4 rfl rfl)
theorem dX1_lambda_meanWeight_15_7 : decode cX1_lambda_meanWeight_15 7 = .ok (.iconst 1, 1) := dk_4 (dk_at dksX1_lambda_meanWeight_15_0 7 rfl rfl)
theorem dX1_lambda_meanWeight_15_8 : decode cX1_lambda_meanWeight_15 8 = .ok (.goto 4, 3) := dk_167 0 4 (dk_at dksX1_lambda_meanWeight_15_0 8 rfl rfl)
theorem dX1_lambda_meanWeight_15_11 : decode cX1_lambda_meanWeight_15 11 = .ok (.iconst 0, 1) := dk_3 (dk_at dksX1_lambda_meanWeight_15_0 11 rfl rfl)
theorem dX1_lambda_meanWeight_15_12 : decode cX1_lambda_meanWeight_15 12 = .ok (.ireturn, 1) := dk_172 (dk_at dksX1_lambda_meanWeight_15_0 12 rfl rfl)
abbrev cX1_checkCount : ByteArray := prog_1_method_7_code
def yX1_checkCount : MethodName := ⟨RX1, "checkCount", "(I)V"⟩
def dkwX1_checkCount_0 : List UInt8 := [26, 154, 0, 11, 187, 0, 22, 89, 183, 0, 24, 191, 177]
abbrev dktX1_checkCount_0 : List UInt8 := dkwX1_checkCount_0 ++ []
theorem dksX1_checkCount_0 : cX1_checkCount.data.toList.drop 0 = dktX1_checkCount_0 := by decide +kernel
theorem dX1_checkCount_0 : decode cX1_checkCount 0 = .ok (.iload_n 0, 1) := dk_26 (dk_at dksX1_checkCount_0 0 rfl rfl)
theorem dX1_checkCount_1 : decode cX1_checkCount 1 = .ok (.ifCond .ne 11, 3) := dk_154 0 11 (dk_at dksX1_checkCount_0 1 rfl rfl)
theorem dX1_checkCount_4 : decode cX1_checkCount 4 = .ok (.new 22, 3) := dk_187 0 22 (dk_at dksX1_checkCount_0 4 rfl rfl)
theorem dX1_checkCount_7 : decode cX1_checkCount 7 = .ok (.dup, 1) := dk_89 (dk_at dksX1_checkCount_0 7 rfl rfl)
theorem dX1_checkCount_8 : decode cX1_checkCount 8 = .ok (.invokespecial 24, 3) := dk_183 0 24 (dk_at dksX1_checkCount_0 8 rfl rfl)
theorem dX1_checkCount_11 : decode cX1_checkCount 11 = .ok (.athrow, 1) := dk_191 (dk_at dksX1_checkCount_0 11 rfl rfl)
theorem dX1_checkCount_12 : decode cX1_checkCount 12 = .ok (.return_, 1) := dk_177 (dk_at dksX1_checkCount_0 12 rfl rfl)
abbrev cX1_lambda_meanWeight_16 : ByteArray := prog_1_method_56_code
def yX1_lambda_meanWeight_16 : MethodName := ⟨RX1, "lambda$meanWeight$16", "(LJumpHall$Jumper;)Z"⟩
def dkwX1_lambda_meanWeight_16_0 : List UInt8 := [42, 182, 1, 155, 154, 0, 7, 4, 167, 0, 4, 3, 172]
abbrev dktX1_lambda_meanWeight_16_0 : List UInt8 := dkwX1_lambda_meanWeight_16_0 ++ []
theorem dksX1_lambda_meanWeight_16_0 : cX1_lambda_meanWeight_16.data.toList.drop 0 = dktX1_lambda_meanWeight_16_0 := by decide +kernel
theorem dX1_lambda_meanWeight_16_0 : decode cX1_lambda_meanWeight_16 0 = .ok (.aload_n 0, 1) := dk_42 (dk_at dksX1_lambda_meanWeight_16_0 0 rfl rfl)
theorem dX1_lambda_meanWeight_16_1 : decode cX1_lambda_meanWeight_16 1 = .ok (.invokevirtual 411, 3) := dk_182 1 155 (dk_at dksX1_lambda_meanWeight_16_0 1 rfl rfl)
theorem dX1_lambda_meanWeight_16_4 : decode cX1_lambda_meanWeight_16 4 = .ok (.ifCond .ne 7, 3) := dk_154 0 7 (dk_at dksX1_lambda_meanWeight_16_0 4 rfl rfl)
theorem dX1_lambda_meanWeight_16_7 : decode cX1_lambda_meanWeight_16 7 = .ok (.iconst 1, 1) := dk_4 (dk_at dksX1_lambda_meanWeight_16_0 7 rfl rfl)
theorem dX1_lambda_meanWeight_16_8 : decode cX1_lambda_meanWeight_16 8 = .ok (.goto 4, 3) := dk_167 0 4 (dk_at dksX1_lambda_meanWeight_16_0 8 rfl rfl)
theorem dX1_lambda_meanWeight_16_11 : decode cX1_lambda_meanWeight_16 11 = .ok (.iconst 0, 1) := dk_3 (dk_at dksX1_lambda_meanWeight_16_0 11 rfl rfl)
theorem dX1_lambda_meanWeight_16_12 : decode cX1_lambda_meanWeight_16 12 = .ok (.ireturn, 1) := dk_172 (dk_at dksX1_lambda_meanWeight_16_0 12 rfl rfl)
abbrev cX1_brokenShare : ByteArray := prog_1_method_44_code
def yX1_brokenShare : MethodName := ⟨RX1, "brokenShare", "()D"⟩
def dkwX1_brokenShare_1 : List UInt8 := [182, 1, 79, 135, 27, 135, 111, 175]
abbrev dktX1_brokenShare_1 : List UInt8 := dkwX1_brokenShare_1 ++ []
def dkwX1_brokenShare_0 : List UInt8 := [16, 8, 42, 180, 0, 39, 180, 0, 98, 182, 0, 71, 104, 60, 27, 184, 1, 72, 42, 180, 0, 39]
abbrev dktX1_brokenShare_0 : List UInt8 := dkwX1_brokenShare_0 ++ dktX1_brokenShare_1
theorem dksX1_brokenShare_0 : cX1_brokenShare.data.toList.drop 0 = dktX1_brokenShare_0 := by decide +kernel
theorem dksX1_brokenShare_1 : cX1_brokenShare.data.toList.drop 22 = dktX1_brokenShare_1 := dk_seg dksX1_brokenShare_0 22 rfl rfl
theorem dX1_brokenShare_0 : decode cX1_brokenShare 0 = .ok (.bipush 8, 2) := dk_16 8 (dk_at dksX1_brokenShare_0 0 rfl rfl)
theorem dX1_brokenShare_2 : decode cX1_brokenShare 2 = .ok (.aload_n 0, 1) := dk_42 (dk_at dksX1_brokenShare_0 2 rfl rfl)
theorem dX1_brokenShare_3 : decode cX1_brokenShare 3 = .ok (.getfield 39, 3) := dk_180 0 39 (dk_at dksX1_brokenShare_0 3 rfl rfl)
theorem dX1_brokenShare_6 : decode cX1_brokenShare 6 = .ok (.getfield 98, 3) := dk_180 0 98 (dk_at dksX1_brokenShare_0 6 rfl rfl)
theorem dX1_brokenShare_9 : decode cX1_brokenShare 9 = .ok (.invokevirtual 71, 3) := dk_182 0 71 (dk_at dksX1_brokenShare_0 9 rfl rfl)
theorem dX1_brokenShare_12 : decode cX1_brokenShare 12 = .ok (.imul, 1) := dk_104 (dk_at dksX1_brokenShare_0 12 rfl rfl)
theorem dX1_brokenShare_13 : decode cX1_brokenShare 13 = .ok (.istore_n 1, 1) := dk_60 (dk_at dksX1_brokenShare_0 13 rfl rfl)
theorem dX1_brokenShare_14 : decode cX1_brokenShare 14 = .ok (.iload_n 1, 1) := dk_27 (dk_at dksX1_brokenShare_0 14 rfl rfl)
theorem dX1_brokenShare_15 : decode cX1_brokenShare 15 = .ok (.invokestatic 328, 3) := dk_184 1 72 (dk_at dksX1_brokenShare_0 15 rfl rfl)
theorem dX1_brokenShare_18 : decode cX1_brokenShare 18 = .ok (.aload_n 0, 1) := dk_42 (dk_at dksX1_brokenShare_0 18 rfl rfl)
theorem dX1_brokenShare_19 : decode cX1_brokenShare 19 = .ok (.getfield 39, 3) := dk_180 0 39 (dk_at dksX1_brokenShare_0 19 rfl rfl)
theorem dX1_brokenShare_22 : decode cX1_brokenShare 22 = .ok (.invokevirtual 335, 3) := dk_182 1 79 (dk_at dksX1_brokenShare_1 0 rfl rfl)
theorem dX1_brokenShare_25 : decode cX1_brokenShare 25 = .ok (.i2d, 1) := dk_135 (dk_at dksX1_brokenShare_1 3 rfl rfl)
theorem dX1_brokenShare_26 : decode cX1_brokenShare 26 = .ok (.iload_n 1, 1) := dk_27 (dk_at dksX1_brokenShare_1 4 rfl rfl)
theorem dX1_brokenShare_27 : decode cX1_brokenShare 27 = .ok (.i2d, 1) := dk_135 (dk_at dksX1_brokenShare_1 5 rfl rfl)
theorem dX1_brokenShare_28 : decode cX1_brokenShare 28 = .ok (.ddiv, 1) := dk_111 (dk_at dksX1_brokenShare_1 6 rfl rfl)
theorem dX1_brokenShare_29 : decode cX1_brokenShare 29 = .ok (.dreturn, 1) := dk_175 (dk_at dksX1_brokenShare_1 7 rfl rfl)
abbrev cX1_account : ByteArray := prog_1_method_45_code
def yX1_account : MethodName := ⟨RX1, "account", "(I)I"⟩
def dkwX1_account_9 : List UInt8 := [167, 0, 17, 42, 180, 1, 106, 167, 0, 10, 42, 180, 0, 46, 182, 0, 71, 172]
abbrev dktX1_account_9 : List UInt8 := dkwX1_account_9 ++ []
def dkwX1_account_8 : List UInt8 := [180, 1, 99, 167, 0, 37, 42, 180, 0, 39, 180, 1, 102, 167, 0, 27, 42, 180, 0, 39, 180, 1, 105]
abbrev dktX1_account_8 : List UInt8 := dkwX1_account_8 ++ dktX1_account_9
def dkwX1_account_7 : List UInt8 := [182, 0, 71, 167, 0, 61, 42, 180, 0, 39, 27, 16, 12, 100, 182, 1, 96, 167, 0, 47, 42, 180, 0, 39]
abbrev dktX1_account_7 : List UInt8 := dkwX1_account_7 ++ dktX1_account_8
def dkwX1_account_6 : List UInt8 := [180, 1, 90, 167, 0, 84, 42, 180, 0, 39, 180, 1, 93, 167, 0, 74, 42, 180, 0, 39, 180, 0, 247]
abbrev dktX1_account_6 : List UInt8 := dkwX1_account_6 ++ dktX1_account_7
def dkwX1_account_5 : List UInt8 := [182, 0, 156, 167, 0, 108, 42, 180, 0, 39, 180, 0, 224, 2, 182, 1, 87, 167, 0, 94, 42, 180, 0, 39]
abbrev dktX1_account_5 : List UInt8 := dkwX1_account_5 ++ dktX1_account_6
def dkwX1_account_4 : List UInt8 := [180, 0, 39, 27, 186, 1, 85, 0, 0, 182, 0, 156, 167, 0, 123, 42, 180, 0, 39, 186, 1, 86, 0, 0]
abbrev dktX1_account_4 : List UInt8 := dkwX1_account_4 ++ dktX1_account_5
def dkwX1_account_3 : List UInt8 := [180, 0, 39, 182, 1, 79, 167, 0, 152, 42, 180, 0, 39, 180, 0, 109, 182, 0, 71, 167, 0, 139, 42]
abbrev dktX1_account_3 : List UInt8 := dkwX1_account_3 ++ dktX1_account_4
def dkwX1_account_2 : List UInt8 := [42, 180, 0, 39, 180, 0, 98, 182, 0, 71, 167, 0, 172, 42, 180, 0, 39, 182, 1, 82, 167, 0, 162, 42]
abbrev dktX1_account_2 : List UInt8 := dkwX1_account_2 ++ dktX1_account_3
def dkwX1_account_1 : List UInt8 := [170, 0, 0, 1, 8, 0, 0, 0, 0, 0, 0, 0, 18, 0, 0, 0, 89, 0, 0, 0, 102, 0, 0, 0, 112, 0, 0, 0, 122, 0, 0, 0, 135, 0, 0, 0, 135, 0, 0, 0, 135, 0, 0, 0, 151, 0, 0, 0, 166, 0, 0, 0, 180, 0, 0, 0, 190, 0, 0, 0, 200, 0, 0, 0, 213, 0, 0, 0, 213, 0, 0, 0, 213, 0, 0, 0, 227, 0, 0, 0, 237, 0, 0, 0, 247, 0, 0, 1, 1]
abbrev dktX1_account_1 : List UInt8 := dkwX1_account_1 ++ dktX1_account_2
def dkwX1_account_0 : List UInt8 := [27, 3, 16, 19, 184, 0, 3, 184, 0, 136, 27]
abbrev dktX1_account_0 : List UInt8 := dkwX1_account_0 ++ dktX1_account_1
theorem dksX1_account_0 : cX1_account.data.toList.drop 0 = dktX1_account_0 := by decide +kernel
theorem dksX1_account_1 : cX1_account.data.toList.drop 11 = dktX1_account_1 := dk_seg dksX1_account_0 11 rfl rfl
theorem dksX1_account_2 : cX1_account.data.toList.drop 100 = dktX1_account_2 := dk_seg dksX1_account_1 89 rfl rfl
theorem dksX1_account_3 : cX1_account.data.toList.drop 124 = dktX1_account_3 := dk_seg dksX1_account_2 24 rfl rfl
theorem dksX1_account_4 : cX1_account.data.toList.drop 147 = dktX1_account_4 := dk_seg dksX1_account_3 23 rfl rfl
theorem dksX1_account_5 : cX1_account.data.toList.drop 171 = dktX1_account_5 := dk_seg dksX1_account_4 24 rfl rfl
theorem dksX1_account_6 : cX1_account.data.toList.drop 195 = dktX1_account_6 := dk_seg dksX1_account_5 24 rfl rfl
theorem dksX1_account_7 : cX1_account.data.toList.drop 218 = dktX1_account_7 := dk_seg dksX1_account_6 23 rfl rfl
theorem dksX1_account_8 : cX1_account.data.toList.drop 242 = dktX1_account_8 := dk_seg dksX1_account_7 24 rfl rfl
theorem dksX1_account_9 : cX1_account.data.toList.drop 265 = dktX1_account_9 := dk_seg dksX1_account_8 23 rfl rfl
theorem dX1_account_0 : decode cX1_account 0 = .ok (.iload_n 1, 1) := dk_27 (dk_at dksX1_account_0 0 rfl rfl)
theorem dX1_account_1 : decode cX1_account 1 = .ok (.iconst 0, 1) := dk_3 (dk_at dksX1_account_0 1 rfl rfl)
theorem dX1_account_2 : decode cX1_account 2 = .ok (.bipush 19, 2) := dk_16 19 (dk_at dksX1_account_0 2 rfl rfl)
theorem dX1_account_4 : decode cX1_account 4 = .ok (.invokestatic 3, 3) := dk_184 0 3 (dk_at dksX1_account_0 4 rfl rfl)
theorem dX1_account_7 : decode cX1_account 7 = .ok (.invokestatic 136, 3) := dk_184 0 136 (dk_at dksX1_account_0 7 rfl rfl)
theorem dX1_account_10 : decode cX1_account 10 = .ok (.iload_n 1, 1) := dk_27 (dk_at dksX1_account_0 10 rfl rfl)
theorem dX1_account_11 : decode cX1_account 11 = .ok (.tableswitch 264 0 18 #[89, 102, 112, 122, 135, 135, 135, 151, 166, 180, 190, 200, 213, 213, 213, 227, 237, 247, 257], 89) := by decide +kernel
theorem dX1_account_100 : decode cX1_account 100 = .ok (.aload_n 0, 1) := dk_42 (dk_at dksX1_account_2 0 rfl rfl)
theorem dX1_account_101 : decode cX1_account 101 = .ok (.getfield 39, 3) := dk_180 0 39 (dk_at dksX1_account_2 1 rfl rfl)
theorem dX1_account_104 : decode cX1_account 104 = .ok (.getfield 98, 3) := dk_180 0 98 (dk_at dksX1_account_2 4 rfl rfl)
theorem dX1_account_107 : decode cX1_account 107 = .ok (.invokevirtual 71, 3) := dk_182 0 71 (dk_at dksX1_account_2 7 rfl rfl)
theorem dX1_account_110 : decode cX1_account 110 = .ok (.goto 172, 3) := dk_167 0 172 (dk_at dksX1_account_2 10 rfl rfl)
theorem dX1_account_113 : decode cX1_account 113 = .ok (.aload_n 0, 1) := dk_42 (dk_at dksX1_account_2 13 rfl rfl)
theorem dX1_account_114 : decode cX1_account 114 = .ok (.getfield 39, 3) := dk_180 0 39 (dk_at dksX1_account_2 14 rfl rfl)
theorem dX1_account_117 : decode cX1_account 117 = .ok (.invokevirtual 338, 3) := dk_182 1 82 (dk_at dksX1_account_2 17 rfl rfl)
theorem dX1_account_120 : decode cX1_account 120 = .ok (.goto 162, 3) := dk_167 0 162 (dk_at dksX1_account_2 20 rfl rfl)
theorem dX1_account_123 : decode cX1_account 123 = .ok (.aload_n 0, 1) := dk_42 (dk_at dksX1_account_2 23 rfl rfl)
theorem dX1_account_124 : decode cX1_account 124 = .ok (.getfield 39, 3) := dk_180 0 39 (dk_at dksX1_account_3 0 rfl rfl)
theorem dX1_account_127 : decode cX1_account 127 = .ok (.invokevirtual 335, 3) := dk_182 1 79 (dk_at dksX1_account_3 3 rfl rfl)
theorem dX1_account_130 : decode cX1_account 130 = .ok (.goto 152, 3) := dk_167 0 152 (dk_at dksX1_account_3 6 rfl rfl)
theorem dX1_account_133 : decode cX1_account 133 = .ok (.aload_n 0, 1) := dk_42 (dk_at dksX1_account_3 9 rfl rfl)
theorem dX1_account_134 : decode cX1_account 134 = .ok (.getfield 39, 3) := dk_180 0 39 (dk_at dksX1_account_3 10 rfl rfl)
theorem dX1_account_137 : decode cX1_account 137 = .ok (.getfield 109, 3) := dk_180 0 109 (dk_at dksX1_account_3 13 rfl rfl)
theorem dX1_account_140 : decode cX1_account 140 = .ok (.invokevirtual 71, 3) := dk_182 0 71 (dk_at dksX1_account_3 16 rfl rfl)
theorem dX1_account_143 : decode cX1_account 143 = .ok (.goto 139, 3) := dk_167 0 139 (dk_at dksX1_account_3 19 rfl rfl)
theorem dX1_account_146 : decode cX1_account 146 = .ok (.aload_n 0, 1) := dk_42 (dk_at dksX1_account_3 22 rfl rfl)
theorem dX1_account_147 : decode cX1_account 147 = .ok (.getfield 39, 3) := dk_180 0 39 (dk_at dksX1_account_4 0 rfl rfl)
theorem dX1_account_150 : decode cX1_account 150 = .ok (.iload_n 1, 1) := dk_27 (dk_at dksX1_account_4 3 rfl rfl)
theorem dX1_account_151 : decode cX1_account 151 = .ok (.invokedynamic 341, 5) := by decide +kernel
theorem dX1_account_156 : decode cX1_account 156 = .ok (.invokevirtual 156, 3) := dk_182 0 156 (dk_at dksX1_account_4 9 rfl rfl)
theorem dX1_account_159 : decode cX1_account 159 = .ok (.goto 123, 3) := dk_167 0 123 (dk_at dksX1_account_4 12 rfl rfl)
theorem dX1_account_162 : decode cX1_account 162 = .ok (.aload_n 0, 1) := dk_42 (dk_at dksX1_account_4 15 rfl rfl)
theorem dX1_account_163 : decode cX1_account 163 = .ok (.getfield 39, 3) := dk_180 0 39 (dk_at dksX1_account_4 16 rfl rfl)
theorem dX1_account_166 : decode cX1_account 166 = .ok (.invokedynamic 342, 5) := by decide +kernel
theorem dX1_account_171 : decode cX1_account 171 = .ok (.invokevirtual 156, 3) := dk_182 0 156 (dk_at dksX1_account_5 0 rfl rfl)
theorem dX1_account_174 : decode cX1_account 174 = .ok (.goto 108, 3) := dk_167 0 108 (dk_at dksX1_account_5 3 rfl rfl)
theorem dX1_account_177 : decode cX1_account 177 = .ok (.aload_n 0, 1) := dk_42 (dk_at dksX1_account_5 6 rfl rfl)
theorem dX1_account_178 : decode cX1_account 178 = .ok (.getfield 39, 3) := dk_180 0 39 (dk_at dksX1_account_5 7 rfl rfl)
theorem dX1_account_181 : decode cX1_account 181 = .ok (.getfield 224, 3) := dk_180 0 224 (dk_at dksX1_account_5 10 rfl rfl)
theorem dX1_account_184 : decode cX1_account 184 = .ok (.iconst (-1), 1) := dk_2 (dk_at dksX1_account_5 13 rfl rfl)
theorem dX1_account_185 : decode cX1_account 185 = .ok (.invokevirtual 343, 3) := dk_182 1 87 (dk_at dksX1_account_5 14 rfl rfl)
theorem dX1_account_188 : decode cX1_account 188 = .ok (.goto 94, 3) := dk_167 0 94 (dk_at dksX1_account_5 17 rfl rfl)
theorem dX1_account_191 : decode cX1_account 191 = .ok (.aload_n 0, 1) := dk_42 (dk_at dksX1_account_5 20 rfl rfl)
theorem dX1_account_192 : decode cX1_account 192 = .ok (.getfield 39, 3) := dk_180 0 39 (dk_at dksX1_account_5 21 rfl rfl)
theorem dX1_account_195 : decode cX1_account 195 = .ok (.getfield 346, 3) := dk_180 1 90 (dk_at dksX1_account_6 0 rfl rfl)
theorem dX1_account_198 : decode cX1_account 198 = .ok (.goto 84, 3) := dk_167 0 84 (dk_at dksX1_account_6 3 rfl rfl)
theorem dX1_account_201 : decode cX1_account 201 = .ok (.aload_n 0, 1) := dk_42 (dk_at dksX1_account_6 6 rfl rfl)
theorem dX1_account_202 : decode cX1_account 202 = .ok (.getfield 39, 3) := dk_180 0 39 (dk_at dksX1_account_6 7 rfl rfl)
theorem dX1_account_205 : decode cX1_account 205 = .ok (.getfield 349, 3) := dk_180 1 93 (dk_at dksX1_account_6 10 rfl rfl)
theorem dX1_account_208 : decode cX1_account 208 = .ok (.goto 74, 3) := dk_167 0 74 (dk_at dksX1_account_6 13 rfl rfl)
theorem dX1_account_211 : decode cX1_account 211 = .ok (.aload_n 0, 1) := dk_42 (dk_at dksX1_account_6 16 rfl rfl)
theorem dX1_account_212 : decode cX1_account 212 = .ok (.getfield 39, 3) := dk_180 0 39 (dk_at dksX1_account_6 17 rfl rfl)
theorem dX1_account_215 : decode cX1_account 215 = .ok (.getfield 247, 3) := dk_180 0 247 (dk_at dksX1_account_6 20 rfl rfl)
theorem dX1_account_218 : decode cX1_account 218 = .ok (.invokevirtual 71, 3) := dk_182 0 71 (dk_at dksX1_account_7 0 rfl rfl)
theorem dX1_account_221 : decode cX1_account 221 = .ok (.goto 61, 3) := dk_167 0 61 (dk_at dksX1_account_7 3 rfl rfl)
theorem dX1_account_224 : decode cX1_account 224 = .ok (.aload_n 0, 1) := dk_42 (dk_at dksX1_account_7 6 rfl rfl)
theorem dX1_account_225 : decode cX1_account 225 = .ok (.getfield 39, 3) := dk_180 0 39 (dk_at dksX1_account_7 7 rfl rfl)
theorem dX1_account_228 : decode cX1_account 228 = .ok (.iload_n 1, 1) := dk_27 (dk_at dksX1_account_7 10 rfl rfl)
theorem dX1_account_229 : decode cX1_account 229 = .ok (.bipush 12, 2) := dk_16 12 (dk_at dksX1_account_7 11 rfl rfl)
theorem dX1_account_231 : decode cX1_account 231 = .ok (.isub, 1) := dk_100 (dk_at dksX1_account_7 13 rfl rfl)
theorem dX1_account_232 : decode cX1_account 232 = .ok (.invokevirtual 352, 3) := dk_182 1 96 (dk_at dksX1_account_7 14 rfl rfl)
theorem dX1_account_235 : decode cX1_account 235 = .ok (.goto 47, 3) := dk_167 0 47 (dk_at dksX1_account_7 17 rfl rfl)
theorem dX1_account_238 : decode cX1_account 238 = .ok (.aload_n 0, 1) := dk_42 (dk_at dksX1_account_7 20 rfl rfl)
theorem dX1_account_239 : decode cX1_account 239 = .ok (.getfield 39, 3) := dk_180 0 39 (dk_at dksX1_account_7 21 rfl rfl)
theorem dX1_account_242 : decode cX1_account 242 = .ok (.getfield 355, 3) := dk_180 1 99 (dk_at dksX1_account_8 0 rfl rfl)
theorem dX1_account_245 : decode cX1_account 245 = .ok (.goto 37, 3) := dk_167 0 37 (dk_at dksX1_account_8 3 rfl rfl)
theorem dX1_account_248 : decode cX1_account 248 = .ok (.aload_n 0, 1) := dk_42 (dk_at dksX1_account_8 6 rfl rfl)
theorem dX1_account_249 : decode cX1_account 249 = .ok (.getfield 39, 3) := dk_180 0 39 (dk_at dksX1_account_8 7 rfl rfl)
theorem dX1_account_252 : decode cX1_account 252 = .ok (.getfield 358, 3) := dk_180 1 102 (dk_at dksX1_account_8 10 rfl rfl)
theorem dX1_account_255 : decode cX1_account 255 = .ok (.goto 27, 3) := dk_167 0 27 (dk_at dksX1_account_8 13 rfl rfl)
theorem dX1_account_258 : decode cX1_account 258 = .ok (.aload_n 0, 1) := dk_42 (dk_at dksX1_account_8 16 rfl rfl)
theorem dX1_account_259 : decode cX1_account 259 = .ok (.getfield 39, 3) := dk_180 0 39 (dk_at dksX1_account_8 17 rfl rfl)
theorem dX1_account_262 : decode cX1_account 262 = .ok (.getfield 361, 3) := dk_180 1 105 (dk_at dksX1_account_8 20 rfl rfl)
theorem dX1_account_265 : decode cX1_account 265 = .ok (.goto 17, 3) := dk_167 0 17 (dk_at dksX1_account_9 0 rfl rfl)
theorem dX1_account_268 : decode cX1_account 268 = .ok (.aload_n 0, 1) := dk_42 (dk_at dksX1_account_9 3 rfl rfl)
theorem dX1_account_269 : decode cX1_account 269 = .ok (.getfield 362, 3) := dk_180 1 106 (dk_at dksX1_account_9 4 rfl rfl)
theorem dX1_account_272 : decode cX1_account 272 = .ok (.goto 10, 3) := dk_167 0 10 (dk_at dksX1_account_9 7 rfl rfl)
theorem dX1_account_275 : decode cX1_account 275 = .ok (.aload_n 0, 1) := dk_42 (dk_at dksX1_account_9 10 rfl rfl)
theorem dX1_account_276 : decode cX1_account 276 = .ok (.getfield 46, 3) := dk_180 0 46 (dk_at dksX1_account_9 11 rfl rfl)
theorem dX1_account_279 : decode cX1_account 279 = .ok (.invokevirtual 71, 3) := dk_182 0 71 (dk_at dksX1_account_9 14 rfl rfl)
theorem dX1_account_282 : decode cX1_account 282 = .ok (.ireturn, 1) := dk_172 (dk_at dksX1_account_9 17 rfl rfl)
abbrev cX1_lambda_account_17 : ByteArray := prog_1_method_55_code
def yX1_lambda_account_17 : MethodName := ⟨RX1, "lambda$account$17", "(ILJumpHall$Jumper;)Z"⟩
def dkwX1_lambda_account_17_0 : List UInt8 := [43, 180, 0, 205, 26, 7, 100, 160, 0, 7, 4, 167, 0, 4, 3, 172]
abbrev dktX1_lambda_account_17_0 : List UInt8 := dkwX1_lambda_account_17_0 ++ []
theorem dksX1_lambda_account_17_0 : cX1_lambda_account_17.data.toList.drop 0 = dktX1_lambda_account_17_0 := by decide +kernel
theorem dX1_lambda_account_17_0 : decode cX1_lambda_account_17 0 = .ok (.aload_n 1, 1) := dk_43 (dk_at dksX1_lambda_account_17_0 0 rfl rfl)
theorem dX1_lambda_account_17_1 : decode cX1_lambda_account_17 1 = .ok (.getfield 205, 3) := dk_180 0 205 (dk_at dksX1_lambda_account_17_0 1 rfl rfl)
theorem dX1_lambda_account_17_4 : decode cX1_lambda_account_17 4 = .ok (.iload_n 0, 1) := dk_26 (dk_at dksX1_lambda_account_17_0 4 rfl rfl)
theorem dX1_lambda_account_17_5 : decode cX1_lambda_account_17 5 = .ok (.iconst 4, 1) := dk_7 (dk_at dksX1_lambda_account_17_0 5 rfl rfl)
theorem dX1_lambda_account_17_6 : decode cX1_lambda_account_17 6 = .ok (.isub, 1) := dk_100 (dk_at dksX1_lambda_account_17_0 6 rfl rfl)
theorem dX1_lambda_account_17_7 : decode cX1_lambda_account_17 7 = .ok (.if_icmp .ne 7, 3) := dk_160 0 7 (dk_at dksX1_lambda_account_17_0 7 rfl rfl)
theorem dX1_lambda_account_17_10 : decode cX1_lambda_account_17 10 = .ok (.iconst 1, 1) := dk_4 (dk_at dksX1_lambda_account_17_0 10 rfl rfl)
theorem dX1_lambda_account_17_11 : decode cX1_lambda_account_17 11 = .ok (.goto 4, 3) := dk_167 0 4 (dk_at dksX1_lambda_account_17_0 11 rfl rfl)
theorem dX1_lambda_account_17_14 : decode cX1_lambda_account_17 14 = .ok (.iconst 0, 1) := dk_3 (dk_at dksX1_lambda_account_17_0 14 rfl rfl)
theorem dX1_lambda_account_17_15 : decode cX1_lambda_account_17 15 = .ok (.ireturn, 1) := dk_172 (dk_at dksX1_lambda_account_17_0 15 rfl rfl)
abbrev cX1_lambda_account_18 : ByteArray := prog_1_method_54_code
def yX1_lambda_account_18 : MethodName := ⟨RX1, "lambda$account$18", "(LJumpHall$Jumper;)Z"⟩
theorem dX1_lambda_account_18_0 : decode cX1_lambda_account_18 0 = .ok (.aload_n 0, 1) := by decide +kernel
theorem dX1_lambda_account_18_1 : decode cX1_lambda_account_18 1 = .ok (.invokevirtual 408, 3) := by decide +kernel
theorem dX1_lambda_account_18_4 : decode cX1_lambda_account_18 4 = .ok (.ireturn, 1) := by decide +kernel
abbrev cX1_append : ByteArray := prog_1_method_46_code
def yX1_append : MethodName := ⟨RX1, "append", "(C)I"⟩
def dkwX1_append_2 : List UInt8 := [42, 180, 1, 106, 172]
abbrev dktX1_append_2 : List UInt8 := dkwX1_append_2 ++ []
def dkwX1_append_1 : List UInt8 := [3, 184, 1, 109, 42, 180, 0, 50, 42, 180, 1, 106, 27, 85, 42, 89, 180, 1, 106, 4, 96, 181, 1, 106]
abbrev dktX1_append_1 : List UInt8 := dkwX1_append_1 ++ dktX1_append_2
def dkwX1_append_0 : List UInt8 := [27, 16, 32, 16, 126, 184, 0, 3, 184, 0, 136, 42, 180, 1, 106, 16, 60, 162, 0, 7, 4, 167, 0, 4]
abbrev dktX1_append_0 : List UInt8 := dkwX1_append_0 ++ dktX1_append_1
theorem dksX1_append_0 : cX1_append.data.toList.drop 0 = dktX1_append_0 := by decide +kernel
theorem dksX1_append_1 : cX1_append.data.toList.drop 24 = dktX1_append_1 := dk_seg dksX1_append_0 24 rfl rfl
theorem dksX1_append_2 : cX1_append.data.toList.drop 48 = dktX1_append_2 := dk_seg dksX1_append_1 24 rfl rfl
theorem dX1_append_0 : decode cX1_append 0 = .ok (.iload_n 1, 1) := dk_27 (dk_at dksX1_append_0 0 rfl rfl)
theorem dX1_append_1 : decode cX1_append 1 = .ok (.bipush 32, 2) := dk_16 32 (dk_at dksX1_append_0 1 rfl rfl)
theorem dX1_append_3 : decode cX1_append 3 = .ok (.bipush 126, 2) := dk_16 126 (dk_at dksX1_append_0 3 rfl rfl)
theorem dX1_append_5 : decode cX1_append 5 = .ok (.invokestatic 3, 3) := dk_184 0 3 (dk_at dksX1_append_0 5 rfl rfl)
theorem dX1_append_8 : decode cX1_append 8 = .ok (.invokestatic 136, 3) := dk_184 0 136 (dk_at dksX1_append_0 8 rfl rfl)
theorem dX1_append_11 : decode cX1_append 11 = .ok (.aload_n 0, 1) := dk_42 (dk_at dksX1_append_0 11 rfl rfl)
theorem dX1_append_12 : decode cX1_append 12 = .ok (.getfield 362, 3) := dk_180 1 106 (dk_at dksX1_append_0 12 rfl rfl)
theorem dX1_append_15 : decode cX1_append 15 = .ok (.bipush 60, 2) := dk_16 60 (dk_at dksX1_append_0 15 rfl rfl)
theorem dX1_append_17 : decode cX1_append 17 = .ok (.if_icmp .ge 7, 3) := dk_162 0 7 (dk_at dksX1_append_0 17 rfl rfl)
theorem dX1_append_20 : decode cX1_append 20 = .ok (.iconst 1, 1) := dk_4 (dk_at dksX1_append_0 20 rfl rfl)
theorem dX1_append_21 : decode cX1_append 21 = .ok (.goto 4, 3) := dk_167 0 4 (dk_at dksX1_append_0 21 rfl rfl)
theorem dX1_append_24 : decode cX1_append 24 = .ok (.iconst 0, 1) := dk_3 (dk_at dksX1_append_1 0 rfl rfl)
theorem dX1_append_25 : decode cX1_append 25 = .ok (.invokestatic 365, 3) := dk_184 1 109 (dk_at dksX1_append_1 1 rfl rfl)
theorem dX1_append_28 : decode cX1_append 28 = .ok (.aload_n 0, 1) := dk_42 (dk_at dksX1_append_1 4 rfl rfl)
theorem dX1_append_29 : decode cX1_append 29 = .ok (.getfield 50, 3) := dk_180 0 50 (dk_at dksX1_append_1 5 rfl rfl)
theorem dX1_append_32 : decode cX1_append 32 = .ok (.aload_n 0, 1) := dk_42 (dk_at dksX1_append_1 8 rfl rfl)
theorem dX1_append_33 : decode cX1_append 33 = .ok (.getfield 362, 3) := dk_180 1 106 (dk_at dksX1_append_1 9 rfl rfl)
theorem dX1_append_36 : decode cX1_append 36 = .ok (.iload_n 1, 1) := dk_27 (dk_at dksX1_append_1 12 rfl rfl)
theorem dX1_append_37 : decode cX1_append 37 = .ok (.castore, 1) := dk_85 (dk_at dksX1_append_1 13 rfl rfl)
theorem dX1_append_38 : decode cX1_append 38 = .ok (.aload_n 0, 1) := dk_42 (dk_at dksX1_append_1 14 rfl rfl)
theorem dX1_append_39 : decode cX1_append 39 = .ok (.dup, 1) := dk_89 (dk_at dksX1_append_1 15 rfl rfl)
theorem dX1_append_40 : decode cX1_append 40 = .ok (.getfield 362, 3) := dk_180 1 106 (dk_at dksX1_append_1 16 rfl rfl)
theorem dX1_append_43 : decode cX1_append 43 = .ok (.iconst 1, 1) := dk_4 (dk_at dksX1_append_1 19 rfl rfl)
theorem dX1_append_44 : decode cX1_append 44 = .ok (.iadd, 1) := dk_96 (dk_at dksX1_append_1 20 rfl rfl)
theorem dX1_append_45 : decode cX1_append 45 = .ok (.putfield 362, 3) := dk_181 1 106 (dk_at dksX1_append_1 21 rfl rfl)
theorem dX1_append_48 : decode cX1_append 48 = .ok (.aload_n 0, 1) := dk_42 (dk_at dksX1_append_2 0 rfl rfl)
theorem dX1_append_49 : decode cX1_append 49 = .ok (.getfield 362, 3) := dk_180 1 106 (dk_at dksX1_append_2 1 rfl rfl)
theorem dX1_append_52 : decode cX1_append 52 = .ok (.ireturn, 1) := dk_172 (dk_at dksX1_append_2 4 rfl rfl)
abbrev cX1_checkState : ByteArray := prog_1_method_5_code
def yX1_checkState : MethodName := ⟨RX1, "checkState", "(Z)V"⟩
def dkwX1_checkState_0 : List UInt8 := [26, 154, 0, 11, 187, 0, 16, 89, 183, 0, 18, 191, 177]
abbrev dktX1_checkState_0 : List UInt8 := dkwX1_checkState_0 ++ []
theorem dksX1_checkState_0 : cX1_checkState.data.toList.drop 0 = dktX1_checkState_0 := by decide +kernel
theorem dX1_checkState_0 : decode cX1_checkState 0 = .ok (.iload_n 0, 1) := dk_26 (dk_at dksX1_checkState_0 0 rfl rfl)
theorem dX1_checkState_1 : decode cX1_checkState 1 = .ok (.ifCond .ne 11, 3) := dk_154 0 11 (dk_at dksX1_checkState_0 1 rfl rfl)
theorem dX1_checkState_4 : decode cX1_checkState 4 = .ok (.new 16, 3) := dk_187 0 16 (dk_at dksX1_checkState_0 4 rfl rfl)
theorem dX1_checkState_7 : decode cX1_checkState 7 = .ok (.dup, 1) := dk_89 (dk_at dksX1_checkState_0 7 rfl rfl)
theorem dX1_checkState_8 : decode cX1_checkState 8 = .ok (.invokespecial 18, 3) := dk_183 0 18 (dk_at dksX1_checkState_0 8 rfl rfl)
theorem dX1_checkState_11 : decode cX1_checkState 11 = .ok (.athrow, 1) := dk_191 (dk_at dksX1_checkState_0 11 rfl rfl)
theorem dX1_checkState_12 : decode cX1_checkState 12 = .ok (.return_, 1) := dk_177 (dk_at dksX1_checkState_0 12 rfl rfl)
abbrev cX1_read : ByteArray := prog_1_method_47_code
def yX1_read : MethodName := ⟨RX1, "read", "()I"⟩
def dkwX1_read_2 : List UInt8 := [187, 0, 7, 89, 183, 0, 9, 191, 78, 42, 3, 181, 1, 106, 45, 191]
abbrev dktX1_read_2 : List UInt8 := dkwX1_read_2 ++ []
def dkwX1_read_1 : List UInt8 := [186, 1, 120, 0, 0, 182, 0, 122, 61, 42, 3, 181, 1, 106, 28, 172, 77, 42, 44, 181, 1, 125]
abbrev dktX1_read_1 : List UInt8 := dkwX1_read_1 ++ dktX1_read_2
def dkwX1_read_0 : List UInt8 := [187, 1, 112, 89, 42, 180, 0, 50, 42, 180, 1, 106, 183, 1, 114, 76, 43, 182, 1, 117, 42, 43]
abbrev dktX1_read_0 : List UInt8 := dkwX1_read_0 ++ dktX1_read_1
theorem dksX1_read_0 : cX1_read.data.toList.drop 0 = dktX1_read_0 := by decide +kernel
theorem dksX1_read_1 : cX1_read.data.toList.drop 22 = dktX1_read_1 := dk_seg dksX1_read_0 22 rfl rfl
theorem dksX1_read_2 : cX1_read.data.toList.drop 44 = dktX1_read_2 := dk_seg dksX1_read_1 22 rfl rfl
theorem dX1_read_0 : decode cX1_read 0 = .ok (.new 368, 3) := dk_187 1 112 (dk_at dksX1_read_0 0 rfl rfl)
theorem dX1_read_3 : decode cX1_read 3 = .ok (.dup, 1) := dk_89 (dk_at dksX1_read_0 3 rfl rfl)
theorem dX1_read_4 : decode cX1_read 4 = .ok (.aload_n 0, 1) := dk_42 (dk_at dksX1_read_0 4 rfl rfl)
theorem dX1_read_5 : decode cX1_read 5 = .ok (.getfield 50, 3) := dk_180 0 50 (dk_at dksX1_read_0 5 rfl rfl)
theorem dX1_read_8 : decode cX1_read 8 = .ok (.aload_n 0, 1) := dk_42 (dk_at dksX1_read_0 8 rfl rfl)
theorem dX1_read_9 : decode cX1_read 9 = .ok (.getfield 362, 3) := dk_180 1 106 (dk_at dksX1_read_0 9 rfl rfl)
theorem dX1_read_12 : decode cX1_read 12 = .ok (.invokespecial 370, 3) := dk_183 1 114 (dk_at dksX1_read_0 12 rfl rfl)
theorem dX1_read_15 : decode cX1_read 15 = .ok (.astore_n 1, 1) := dk_76 (dk_at dksX1_read_0 15 rfl rfl)
theorem dX1_read_16 : decode cX1_read 16 = .ok (.aload_n 1, 1) := dk_43 (dk_at dksX1_read_0 16 rfl rfl)
theorem dX1_read_17 : decode cX1_read 17 = .ok (.invokevirtual 373, 3) := dk_182 1 117 (dk_at dksX1_read_0 17 rfl rfl)
theorem dX1_read_20 : decode cX1_read 20 = .ok (.aload_n 0, 1) := dk_42 (dk_at dksX1_read_0 20 rfl rfl)
theorem dX1_read_21 : decode cX1_read 21 = .ok (.aload_n 1, 1) := dk_43 (dk_at dksX1_read_0 21 rfl rfl)
theorem dX1_read_22 : decode cX1_read 22 = .ok (.invokedynamic 376, 5) := by decide +kernel
theorem dX1_read_27 : decode cX1_read 27 = .ok (.invokevirtual 122, 3) := dk_182 0 122 (dk_at dksX1_read_1 5 rfl rfl)
theorem dX1_read_30 : decode cX1_read 30 = .ok (.istore_n 2, 1) := dk_61 (dk_at dksX1_read_1 8 rfl rfl)
theorem dX1_read_31 : decode cX1_read 31 = .ok (.aload_n 0, 1) := dk_42 (dk_at dksX1_read_1 9 rfl rfl)
theorem dX1_read_32 : decode cX1_read 32 = .ok (.iconst 0, 1) := dk_3 (dk_at dksX1_read_1 10 rfl rfl)
theorem dX1_read_33 : decode cX1_read 33 = .ok (.putfield 362, 3) := dk_181 1 106 (dk_at dksX1_read_1 11 rfl rfl)
theorem dX1_read_36 : decode cX1_read 36 = .ok (.iload_n 2, 1) := dk_28 (dk_at dksX1_read_1 14 rfl rfl)
theorem dX1_read_37 : decode cX1_read 37 = .ok (.ireturn, 1) := dk_172 (dk_at dksX1_read_1 15 rfl rfl)
theorem dX1_read_38 : decode cX1_read 38 = .ok (.astore_n 2, 1) := dk_77 (dk_at dksX1_read_1 16 rfl rfl)
theorem dX1_read_39 : decode cX1_read 39 = .ok (.aload_n 0, 1) := dk_42 (dk_at dksX1_read_1 17 rfl rfl)
theorem dX1_read_40 : decode cX1_read 40 = .ok (.aload_n 2, 1) := dk_44 (dk_at dksX1_read_1 18 rfl rfl)
theorem dX1_read_41 : decode cX1_read 41 = .ok (.putfield 381, 3) := dk_181 1 125 (dk_at dksX1_read_1 19 rfl rfl)
theorem dX1_read_44 : decode cX1_read 44 = .ok (.new 7, 3) := dk_187 0 7 (dk_at dksX1_read_2 0 rfl rfl)
theorem dX1_read_47 : decode cX1_read 47 = .ok (.dup, 1) := dk_89 (dk_at dksX1_read_2 3 rfl rfl)
theorem dX1_read_48 : decode cX1_read 48 = .ok (.invokespecial 9, 3) := dk_183 0 9 (dk_at dksX1_read_2 4 rfl rfl)
theorem dX1_read_51 : decode cX1_read 51 = .ok (.athrow, 1) := dk_191 (dk_at dksX1_read_2 7 rfl rfl)
theorem dX1_read_52 : decode cX1_read 52 = .ok (.astore_n 3, 1) := dk_78 (dk_at dksX1_read_2 8 rfl rfl)
theorem dX1_read_53 : decode cX1_read 53 = .ok (.aload_n 0, 1) := dk_42 (dk_at dksX1_read_2 9 rfl rfl)
theorem dX1_read_54 : decode cX1_read 54 = .ok (.iconst 0, 1) := dk_3 (dk_at dksX1_read_2 10 rfl rfl)
theorem dX1_read_55 : decode cX1_read 55 = .ok (.putfield 362, 3) := dk_181 1 106 (dk_at dksX1_read_2 11 rfl rfl)
theorem dX1_read_58 : decode cX1_read 58 = .ok (.aload_n 3, 1) := dk_45 (dk_at dksX1_read_2 14 rfl rfl)
theorem dX1_read_59 : decode cX1_read 59 = .ok (.athrow, 1) := dk_191 (dk_at dksX1_read_2 15 rfl rfl)
abbrev cX1_lambda_read_19 : ByteArray := prog_1_method_53_code
def yX1_lambda_read_19 : MethodName := ⟨RX1, "lambda$read$19", "(LJumpHall$Parser;LJumpHall$Hall;)I"⟩
def dkwX1_lambda_read_19_0 : List UInt8 := [42, 43, 182, 1, 150, 172]
abbrev dktX1_lambda_read_19_0 : List UInt8 := dkwX1_lambda_read_19_0 ++ []
theorem dksX1_lambda_read_19_0 : cX1_lambda_read_19.data.toList.drop 0 = dktX1_lambda_read_19_0 := by decide +kernel
theorem dX1_lambda_read_19_0 : decode cX1_lambda_read_19 0 = .ok (.aload_n 0, 1) := dk_42 (dk_at dksX1_lambda_read_19_0 0 rfl rfl)
theorem dX1_lambda_read_19_1 : decode cX1_lambda_read_19 1 = .ok (.aload_n 1, 1) := dk_43 (dk_at dksX1_lambda_read_19_0 1 rfl rfl)
theorem dX1_lambda_read_19_2 : decode cX1_lambda_read_19 2 = .ok (.invokevirtual 406, 3) := dk_182 1 150 (dk_at dksX1_lambda_read_19_0 2 rfl rfl)
theorem dX1_lambda_read_19_5 : decode cX1_lambda_read_19 5 = .ok (.ireturn, 1) := dk_172 (dk_at dksX1_lambda_read_19_0 5 rfl rfl)
abbrev cX1_need : ByteArray := prog_1_method_9_code
def yX1_need : MethodName := ⟨RX1, "need", "(Z)V"⟩
def dkwX1_need_0 : List UInt8 := [26, 154, 0, 11, 187, 0, 30, 89, 183, 0, 32, 191, 177]
abbrev dktX1_need_0 : List UInt8 := dkwX1_need_0 ++ []
theorem dksX1_need_0 : cX1_need.data.toList.drop 0 = dktX1_need_0 := by decide +kernel
theorem dX1_need_0 : decode cX1_need 0 = .ok (.iload_n 0, 1) := dk_26 (dk_at dksX1_need_0 0 rfl rfl)
theorem dX1_need_1 : decode cX1_need 1 = .ok (.ifCond .ne 11, 3) := dk_154 0 11 (dk_at dksX1_need_0 1 rfl rfl)
theorem dX1_need_4 : decode cX1_need 4 = .ok (.new 30, 3) := dk_187 0 30 (dk_at dksX1_need_0 4 rfl rfl)
theorem dX1_need_7 : decode cX1_need 7 = .ok (.dup, 1) := dk_89 (dk_at dksX1_need_0 7 rfl rfl)
theorem dX1_need_8 : decode cX1_need 8 = .ok (.invokespecial 32, 3) := dk_183 0 32 (dk_at dksX1_need_0 8 rfl rfl)
theorem dX1_need_11 : decode cX1_need 11 = .ok (.athrow, 1) := dk_191 (dk_at dksX1_need_0 11 rfl rfl)
theorem dX1_need_12 : decode cX1_need 12 = .ok (.return_, 1) := dk_177 (dk_at dksX1_need_0 12 rfl rfl)
abbrev cX1_errorPosition : ByteArray := prog_1_method_48_code
def yX1_errorPosition : MethodName := ⟨RX1, "errorPosition", "()I"⟩
def dkwX1_errorPosition_0 : List UInt8 := [42, 180, 1, 125, 198, 0, 7, 4, 167, 0, 4, 3, 184, 0, 175, 42, 180, 1, 125, 180, 1, 129, 172]
abbrev dktX1_errorPosition_0 : List UInt8 := dkwX1_errorPosition_0 ++ []
theorem dksX1_errorPosition_0 : cX1_errorPosition.data.toList.drop 0 = dktX1_errorPosition_0 := by decide +kernel
theorem dX1_errorPosition_0 : decode cX1_errorPosition 0 = .ok (.aload_n 0, 1) := dk_42 (dk_at dksX1_errorPosition_0 0 rfl rfl)
theorem dX1_errorPosition_1 : decode cX1_errorPosition 1 = .ok (.getfield 381, 3) := dk_180 1 125 (dk_at dksX1_errorPosition_0 1 rfl rfl)
theorem dX1_errorPosition_4 : decode cX1_errorPosition 4 = .ok (.ifnull 7, 3) := dk_198 0 7 (dk_at dksX1_errorPosition_0 4 rfl rfl)
theorem dX1_errorPosition_7 : decode cX1_errorPosition 7 = .ok (.iconst 1, 1) := dk_4 (dk_at dksX1_errorPosition_0 7 rfl rfl)
theorem dX1_errorPosition_8 : decode cX1_errorPosition 8 = .ok (.goto 4, 3) := dk_167 0 4 (dk_at dksX1_errorPosition_0 8 rfl rfl)
theorem dX1_errorPosition_11 : decode cX1_errorPosition 11 = .ok (.iconst 0, 1) := dk_3 (dk_at dksX1_errorPosition_0 11 rfl rfl)
theorem dX1_errorPosition_12 : decode cX1_errorPosition 12 = .ok (.invokestatic 175, 3) := dk_184 0 175 (dk_at dksX1_errorPosition_0 12 rfl rfl)
theorem dX1_errorPosition_15 : decode cX1_errorPosition 15 = .ok (.aload_n 0, 1) := dk_42 (dk_at dksX1_errorPosition_0 15 rfl rfl)
theorem dX1_errorPosition_16 : decode cX1_errorPosition 16 = .ok (.getfield 381, 3) := dk_180 1 125 (dk_at dksX1_errorPosition_0 16 rfl rfl)
theorem dX1_errorPosition_19 : decode cX1_errorPosition 19 = .ok (.getfield 385, 3) := dk_180 1 129 (dk_at dksX1_errorPosition_0 19 rfl rfl)
theorem dX1_errorPosition_22 : decode cX1_errorPosition 22 = .ok (.ireturn, 1) := dk_172 (dk_at dksX1_errorPosition_0 22 rfl rfl)
abbrev cX1_reason : ByteArray := prog_1_method_49_code
def yX1_reason : MethodName := ⟨RX1, "reason", "(IZ)I"⟩
def dkwX1_reason_2 : List UInt8 := [180, 1, 141, 172]
abbrev dktX1_reason_2 : List UInt8 := dkwX1_reason_2 ++ []
def dkwX1_reason_1 : List UInt8 := [45, 198, 0, 7, 4, 167, 0, 4, 3, 184, 0, 175, 28, 153, 0, 10, 45, 180, 1, 138, 167, 0, 7, 45]
abbrev dktX1_reason_1 : List UInt8 := dkwX1_reason_1 ++ dktX1_reason_2
def dkwX1_reason_0 : List UInt8 := [42, 180, 0, 83, 198, 0, 7, 27, 156, 0, 7, 1, 167, 0, 11, 42, 180, 0, 83, 27, 182, 1, 132, 78]
abbrev dktX1_reason_0 : List UInt8 := dkwX1_reason_0 ++ dktX1_reason_1
theorem dksX1_reason_0 : cX1_reason.data.toList.drop 0 = dktX1_reason_0 := by decide +kernel
theorem dksX1_reason_1 : cX1_reason.data.toList.drop 24 = dktX1_reason_1 := dk_seg dksX1_reason_0 24 rfl rfl
theorem dksX1_reason_2 : cX1_reason.data.toList.drop 48 = dktX1_reason_2 := dk_seg dksX1_reason_1 24 rfl rfl
theorem dX1_reason_0 : decode cX1_reason 0 = .ok (.aload_n 0, 1) := dk_42 (dk_at dksX1_reason_0 0 rfl rfl)
theorem dX1_reason_1 : decode cX1_reason 1 = .ok (.getfield 83, 3) := dk_180 0 83 (dk_at dksX1_reason_0 1 rfl rfl)
theorem dX1_reason_4 : decode cX1_reason 4 = .ok (.ifnull 7, 3) := dk_198 0 7 (dk_at dksX1_reason_0 4 rfl rfl)
theorem dX1_reason_7 : decode cX1_reason 7 = .ok (.iload_n 1, 1) := dk_27 (dk_at dksX1_reason_0 7 rfl rfl)
theorem dX1_reason_8 : decode cX1_reason 8 = .ok (.ifCond .ge 7, 3) := dk_156 0 7 (dk_at dksX1_reason_0 8 rfl rfl)
theorem dX1_reason_11 : decode cX1_reason 11 = .ok (.aconst_null, 1) := dk_1 (dk_at dksX1_reason_0 11 rfl rfl)
theorem dX1_reason_12 : decode cX1_reason 12 = .ok (.goto 11, 3) := dk_167 0 11 (dk_at dksX1_reason_0 12 rfl rfl)
theorem dX1_reason_15 : decode cX1_reason 15 = .ok (.aload_n 0, 1) := dk_42 (dk_at dksX1_reason_0 15 rfl rfl)
theorem dX1_reason_16 : decode cX1_reason 16 = .ok (.getfield 83, 3) := dk_180 0 83 (dk_at dksX1_reason_0 16 rfl rfl)
theorem dX1_reason_19 : decode cX1_reason 19 = .ok (.iload_n 1, 1) := dk_27 (dk_at dksX1_reason_0 19 rfl rfl)
theorem dX1_reason_20 : decode cX1_reason 20 = .ok (.invokevirtual 388, 3) := dk_182 1 132 (dk_at dksX1_reason_0 20 rfl rfl)
theorem dX1_reason_23 : decode cX1_reason 23 = .ok (.astore_n 3, 1) := dk_78 (dk_at dksX1_reason_0 23 rfl rfl)
theorem dX1_reason_24 : decode cX1_reason 24 = .ok (.aload_n 3, 1) := dk_45 (dk_at dksX1_reason_1 0 rfl rfl)
theorem dX1_reason_25 : decode cX1_reason 25 = .ok (.ifnull 7, 3) := dk_198 0 7 (dk_at dksX1_reason_1 1 rfl rfl)
theorem dX1_reason_28 : decode cX1_reason 28 = .ok (.iconst 1, 1) := dk_4 (dk_at dksX1_reason_1 4 rfl rfl)
theorem dX1_reason_29 : decode cX1_reason 29 = .ok (.goto 4, 3) := dk_167 0 4 (dk_at dksX1_reason_1 5 rfl rfl)
theorem dX1_reason_32 : decode cX1_reason 32 = .ok (.iconst 0, 1) := dk_3 (dk_at dksX1_reason_1 8 rfl rfl)
theorem dX1_reason_33 : decode cX1_reason 33 = .ok (.invokestatic 175, 3) := dk_184 0 175 (dk_at dksX1_reason_1 9 rfl rfl)
theorem dX1_reason_36 : decode cX1_reason 36 = .ok (.iload_n 2, 1) := dk_28 (dk_at dksX1_reason_1 12 rfl rfl)
theorem dX1_reason_37 : decode cX1_reason 37 = .ok (.ifCond .eq 10, 3) := dk_153 0 10 (dk_at dksX1_reason_1 13 rfl rfl)
theorem dX1_reason_40 : decode cX1_reason 40 = .ok (.aload_n 3, 1) := dk_45 (dk_at dksX1_reason_1 16 rfl rfl)
theorem dX1_reason_41 : decode cX1_reason 41 = .ok (.getfield 394, 3) := dk_180 1 138 (dk_at dksX1_reason_1 17 rfl rfl)
theorem dX1_reason_44 : decode cX1_reason 44 = .ok (.goto 7, 3) := dk_167 0 7 (dk_at dksX1_reason_1 20 rfl rfl)
theorem dX1_reason_47 : decode cX1_reason 47 = .ok (.aload_n 3, 1) := dk_45 (dk_at dksX1_reason_1 23 rfl rfl)
theorem dX1_reason_48 : decode cX1_reason 48 = .ok (.getfield 397, 3) := dk_180 1 141 (dk_at dksX1_reason_2 0 rfl rfl)
theorem dX1_reason_51 : decode cX1_reason 51 = .ok (.ireturn, 1) := dk_172 (dk_at dksX1_reason_2 3 rfl rfl)
abbrev cX1_undo : ByteArray := prog_1_method_50_code
def yX1_undo : MethodName := ⟨RX1, "undo", "()I"⟩
def dkwX1_undo_2 : List UInt8 := [172]
abbrev dktX1_undo_2 : List UInt8 := dkwX1_undo_2 ++ []
def dkwX1_undo_1 : List UInt8 := [180, 0, 46, 182, 0, 71, 4, 100, 182, 0, 75, 192, 0, 36, 181, 0, 39, 42, 180, 0, 46, 182, 0, 71]
abbrev dktX1_undo_1 : List UInt8 := dkwX1_undo_1 ++ dktX1_undo_2
def dkwX1_undo_0 : List UInt8 := [42, 180, 0, 46, 182, 0, 71, 158, 0, 7, 4, 167, 0, 4, 3, 184, 0, 175, 42, 42, 180, 0, 46, 42]
abbrev dktX1_undo_0 : List UInt8 := dkwX1_undo_0 ++ dktX1_undo_1
theorem dksX1_undo_0 : cX1_undo.data.toList.drop 0 = dktX1_undo_0 := by decide +kernel
theorem dksX1_undo_1 : cX1_undo.data.toList.drop 24 = dktX1_undo_1 := dk_seg dksX1_undo_0 24 rfl rfl
theorem dksX1_undo_2 : cX1_undo.data.toList.drop 48 = dktX1_undo_2 := dk_seg dksX1_undo_1 24 rfl rfl
theorem dX1_undo_0 : decode cX1_undo 0 = .ok (.aload_n 0, 1) := dk_42 (dk_at dksX1_undo_0 0 rfl rfl)
theorem dX1_undo_1 : decode cX1_undo 1 = .ok (.getfield 46, 3) := dk_180 0 46 (dk_at dksX1_undo_0 1 rfl rfl)
theorem dX1_undo_4 : decode cX1_undo 4 = .ok (.invokevirtual 71, 3) := dk_182 0 71 (dk_at dksX1_undo_0 4 rfl rfl)
theorem dX1_undo_7 : decode cX1_undo 7 = .ok (.ifCond .le 7, 3) := dk_158 0 7 (dk_at dksX1_undo_0 7 rfl rfl)
theorem dX1_undo_10 : decode cX1_undo 10 = .ok (.iconst 1, 1) := dk_4 (dk_at dksX1_undo_0 10 rfl rfl)
theorem dX1_undo_11 : decode cX1_undo 11 = .ok (.goto 4, 3) := dk_167 0 4 (dk_at dksX1_undo_0 11 rfl rfl)
theorem dX1_undo_14 : decode cX1_undo 14 = .ok (.iconst 0, 1) := dk_3 (dk_at dksX1_undo_0 14 rfl rfl)
theorem dX1_undo_15 : decode cX1_undo 15 = .ok (.invokestatic 175, 3) := dk_184 0 175 (dk_at dksX1_undo_0 15 rfl rfl)
theorem dX1_undo_18 : decode cX1_undo 18 = .ok (.aload_n 0, 1) := dk_42 (dk_at dksX1_undo_0 18 rfl rfl)
theorem dX1_undo_19 : decode cX1_undo 19 = .ok (.aload_n 0, 1) := dk_42 (dk_at dksX1_undo_0 19 rfl rfl)
theorem dX1_undo_20 : decode cX1_undo 20 = .ok (.getfield 46, 3) := dk_180 0 46 (dk_at dksX1_undo_0 20 rfl rfl)
theorem dX1_undo_23 : decode cX1_undo 23 = .ok (.aload_n 0, 1) := dk_42 (dk_at dksX1_undo_0 23 rfl rfl)
theorem dX1_undo_24 : decode cX1_undo 24 = .ok (.getfield 46, 3) := dk_180 0 46 (dk_at dksX1_undo_1 0 rfl rfl)
theorem dX1_undo_27 : decode cX1_undo 27 = .ok (.invokevirtual 71, 3) := dk_182 0 71 (dk_at dksX1_undo_1 3 rfl rfl)
theorem dX1_undo_30 : decode cX1_undo 30 = .ok (.iconst 1, 1) := dk_4 (dk_at dksX1_undo_1 6 rfl rfl)
theorem dX1_undo_31 : decode cX1_undo 31 = .ok (.isub, 1) := dk_100 (dk_at dksX1_undo_1 7 rfl rfl)
theorem dX1_undo_32 : decode cX1_undo 32 = .ok (.invokevirtual 75, 3) := dk_182 0 75 (dk_at dksX1_undo_1 8 rfl rfl)
theorem dX1_undo_35 : decode cX1_undo 35 = .ok (.checkcast 36, 3) := dk_192 0 36 (dk_at dksX1_undo_1 11 rfl rfl)
theorem dX1_undo_38 : decode cX1_undo 38 = .ok (.putfield 39, 3) := dk_181 0 39 (dk_at dksX1_undo_1 14 rfl rfl)
theorem dX1_undo_41 : decode cX1_undo 41 = .ok (.aload_n 0, 1) := dk_42 (dk_at dksX1_undo_1 17 rfl rfl)
theorem dX1_undo_42 : decode cX1_undo 42 = .ok (.getfield 46, 3) := dk_180 0 46 (dk_at dksX1_undo_1 18 rfl rfl)
theorem dX1_undo_45 : decode cX1_undo 45 = .ok (.invokevirtual 71, 3) := dk_182 0 71 (dk_at dksX1_undo_1 21 rfl rfl)
theorem dX1_undo_48 : decode cX1_undo 48 = .ok (.ireturn, 1) := dk_172 (dk_at dksX1_undo_2 0 rfl rfl)
abbrev cX1_restore : ByteArray := prog_1_method_52_code
def yX1_restore : MethodName := ⟨RX1, "restore", "()I"⟩
def dkwX1_restore_1 : List UInt8 := [181, 0, 39, 42, 180, 0, 46, 182, 1, 147, 42, 180, 0, 39, 180, 0, 98, 182, 0, 71, 172]
abbrev dktX1_restore_1 : List UInt8 := dkwX1_restore_1 ++ []
def dkwX1_restore_0 : List UInt8 := [42, 180, 1, 144, 198, 0, 7, 4, 167, 0, 4, 3, 184, 1, 109, 42, 42, 180, 1, 144, 182, 0, 61]
abbrev dktX1_restore_0 : List UInt8 := dkwX1_restore_0 ++ dktX1_restore_1
theorem dksX1_restore_0 : cX1_restore.data.toList.drop 0 = dktX1_restore_0 := by decide +kernel
theorem dksX1_restore_1 : cX1_restore.data.toList.drop 23 = dktX1_restore_1 := dk_seg dksX1_restore_0 23 rfl rfl
theorem dX1_restore_0 : decode cX1_restore 0 = .ok (.aload_n 0, 1) := dk_42 (dk_at dksX1_restore_0 0 rfl rfl)
theorem dX1_restore_1 : decode cX1_restore 1 = .ok (.getfield 400, 3) := dk_180 1 144 (dk_at dksX1_restore_0 1 rfl rfl)
theorem dX1_restore_4 : decode cX1_restore 4 = .ok (.ifnull 7, 3) := dk_198 0 7 (dk_at dksX1_restore_0 4 rfl rfl)
theorem dX1_restore_7 : decode cX1_restore 7 = .ok (.iconst 1, 1) := dk_4 (dk_at dksX1_restore_0 7 rfl rfl)
theorem dX1_restore_8 : decode cX1_restore 8 = .ok (.goto 4, 3) := dk_167 0 4 (dk_at dksX1_restore_0 8 rfl rfl)
theorem dX1_restore_11 : decode cX1_restore 11 = .ok (.iconst 0, 1) := dk_3 (dk_at dksX1_restore_0 11 rfl rfl)
theorem dX1_restore_12 : decode cX1_restore 12 = .ok (.invokestatic 365, 3) := dk_184 1 109 (dk_at dksX1_restore_0 12 rfl rfl)
theorem dX1_restore_15 : decode cX1_restore 15 = .ok (.aload_n 0, 1) := dk_42 (dk_at dksX1_restore_0 15 rfl rfl)
theorem dX1_restore_16 : decode cX1_restore 16 = .ok (.aload_n 0, 1) := dk_42 (dk_at dksX1_restore_0 16 rfl rfl)
theorem dX1_restore_17 : decode cX1_restore 17 = .ok (.getfield 400, 3) := dk_180 1 144 (dk_at dksX1_restore_0 17 rfl rfl)
theorem dX1_restore_20 : decode cX1_restore 20 = .ok (.invokevirtual 61, 3) := dk_182 0 61 (dk_at dksX1_restore_0 20 rfl rfl)
theorem dX1_restore_23 : decode cX1_restore 23 = .ok (.putfield 39, 3) := dk_181 0 39 (dk_at dksX1_restore_1 0 rfl rfl)
theorem dX1_restore_26 : decode cX1_restore 26 = .ok (.aload_n 0, 1) := dk_42 (dk_at dksX1_restore_1 3 rfl rfl)
theorem dX1_restore_27 : decode cX1_restore 27 = .ok (.getfield 46, 3) := dk_180 0 46 (dk_at dksX1_restore_1 4 rfl rfl)
theorem dX1_restore_30 : decode cX1_restore 30 = .ok (.invokevirtual 403, 3) := dk_182 1 147 (dk_at dksX1_restore_1 7 rfl rfl)
theorem dX1_restore_33 : decode cX1_restore 33 = .ok (.aload_n 0, 1) := dk_42 (dk_at dksX1_restore_1 10 rfl rfl)
theorem dX1_restore_34 : decode cX1_restore 34 = .ok (.getfield 39, 3) := dk_180 0 39 (dk_at dksX1_restore_1 11 rfl rfl)
theorem dX1_restore_37 : decode cX1_restore 37 = .ok (.getfield 98, 3) := dk_180 0 98 (dk_at dksX1_restore_1 14 rfl rfl)
theorem dX1_restore_40 : decode cX1_restore 40 = .ok (.invokevirtual 71, 3) := dk_182 0 71 (dk_at dksX1_restore_1 17 rfl rfl)
theorem dX1_restore_43 : decode cX1_restore 43 = .ok (.ireturn, 1) := dk_172 (dk_at dksX1_restore_1 20 rfl rfl)
theorem q74 : (Jvm.Cond.initialized "JumpHall") ∈ lw_all := lw_g (lw_at lw_m1 1 rfl) rfl
theorem q139 : (Jvm.Cond.instantiable "JumpHall" (8 : Nat)) ∈ lw_all := lw_g (lw_at lw_m1 66 rfl) rfl
theorem q141 : (Jvm.Cond.instanceMethod ({ cls := "JumpHall", name := "<init>", desc := "()V" } : Jvm.MethodName)) ∈ lw_all := lw_g (lw_at lw_m1 68 rfl) rfl
theorem q142 : (Jvm.Cond.code ({ cls := "JumpHall", name := "<init>", desc := "()V" } : Jvm.MethodName) prog_1_method_10_code (1 : Nat) (Option.none : Option Jvm.ClassFile.FieldType)) ∈ lw_all := lw_g (lw_at lw_m1 69 rfl) rfl
theorem q143 : (Jvm.Cond.methodLink "JumpHall" (33 : Nat) ({ cls := "java/lang/Object", name := "<init>", desc := "()V" } : Jvm.MethodName)) ∈ lw_all := lw_g (lw_at lw_m1 70 rfl) rfl
theorem q146 : (Jvm.Cond.classLink "JumpHall" (36 : Nat) "JumpHall$Hall") ∈ lw_all := lw_g (lw_at lw_m1 73 rfl) rfl
theorem q148 : (Jvm.Cond.methodLinkNest "JumpHall" (38 : Nat) ({ cls := "JumpHall$Hall", name := "<init>", desc := "()V" } : Jvm.MethodName) "JumpHall") ∈ lw_tbl := lw_at lw_m1 75 rfl
theorem q229 : (Jvm.Cond.fieldLinkNest "JumpHall" (98 : Nat) "JumpHall$Hall" "mats" "Ljava/util/ArrayList;" "JumpHall") ∈ lw_tbl := lw_at lw_m1 156 rfl
theorem q231 : (Jvm.Cond.fieldLinkNest "JumpHall" (109 : Nat) "JumpHall$Hall" "jumpers" "Ljava/util/ArrayList;" "JumpHall") ∈ lw_tbl := lw_at lw_m1 158 rfl
theorem q233 : (Jvm.Cond.fieldLinkNest "JumpHall" (114 : Nat) "JumpHall$Hall" "parties" "Ljava/util/ArrayList;" "JumpHall") ∈ lw_tbl := lw_at lw_m1 160 rfl
theorem q235 : (Jvm.Cond.fieldLinkNest "JumpHall" (247 : Nat) "JumpHall$Hall" "guards" "Ljava/util/ArrayList;" "JumpHall") ∈ lw_tbl := lw_at lw_m1 162 rfl
theorem q237 : (Jvm.Cond.fieldLinkNest "JumpHall" (224 : Nat) "JumpHall$Hall" "stock" "LJumpHall$Shelf;" "JumpHall") ∈ lw_tbl := lw_at lw_m1 164 rfl
theorem q239 : (Jvm.Cond.fieldLinkNest "JumpHall" (220 : Nat) "JumpHall$Hall" "sold" "LJumpHall$Shelf;" "JumpHall") ∈ lw_tbl := lw_at lw_m1 166 rfl
theorem q241 : (Jvm.Cond.fieldLinkNest "JumpHall" (346 : Nat) "JumpHall$Hall" "pairsSold" "I" "JumpHall") ∈ lw_tbl := lw_at lw_m1 168 rfl
theorem q243 : (Jvm.Cond.fieldLinkNest "JumpHall" (349 : Nat) "JumpHall$Hall" "coins" "I" "JumpHall") ∈ lw_tbl := lw_at lw_m1 170 rfl
theorem q245 : (Jvm.Cond.fieldLinkNest "JumpHall" (355 : Nat) "JumpHall$Hall" "sentDown" "I" "JumpHall") ∈ lw_tbl := lw_at lw_m1 172 rfl
theorem q247 : (Jvm.Cond.fieldLinkNest "JumpHall" (358 : Nat) "JumpHall$Hall" "fixed" "I" "JumpHall") ∈ lw_tbl := lw_at lw_m1 174 rfl
theorem q249 : (Jvm.Cond.fieldLinkNest "JumpHall" (361 : Nat) "JumpHall$Hall" "minute" "I" "JumpHall") ∈ lw_tbl := lw_at lw_m1 176 rfl
theorem q273 : (Jvm.Cond.classLink "JumpHall" (43 : Nat) "java/util/ArrayList") ∈ lw_all := lw_g (lw_at lw_m1 200 rfl) rfl
theorem q274 : (Jvm.Cond.methodLink "JumpHall" (45 : Nat) ({ cls := "java/util/ArrayList", name := "<init>", desc := "()V" } : Jvm.MethodName)) ∈ lw_all := lw_g (lw_at lw_m1 201 rfl) rfl
theorem q275 : (Jvm.Cond.classLink "JumpHall" (54 : Nat) "java/lang/StringBuilder") ∈ lw_all := lw_g (lw_at lw_m1 202 rfl) rfl
theorem q277 : (Jvm.Cond.methodLink "JumpHall" (56 : Nat) ({ cls := "java/lang/StringBuilder", name := "<init>", desc := "()V" } : Jvm.MethodName)) ∈ lw_all := lw_g (lw_at lw_m1 204 rfl) rfl
theorem q309 : (Jvm.Cond.fieldLink "JumpHall" (39 : Nat) "JumpHall" "hall" "LJumpHall$Hall;") ∈ lw_all := lw_g (lw_at lw_m1 236 rfl) rfl
theorem q310 : (Jvm.Cond.fieldLink "JumpHall" (400 : Nat) "JumpHall" "saved" "LJumpHall$Hall;") ∈ lw_all := lw_g (lw_at lw_m1 237 rfl) rfl
theorem q311 : (Jvm.Cond.fieldLink "JumpHall" (46 : Nat) "JumpHall" "history" "Ljava/util/ArrayList;") ∈ lw_all := lw_g (lw_at lw_m1 238 rfl) rfl
theorem q312 : (Jvm.Cond.fieldLink "JumpHall" (50 : Nat) "JumpHall" "input" "[C") ∈ lw_all := lw_g (lw_at lw_m1 239 rfl) rfl
theorem q313 : (Jvm.Cond.fieldLink "JumpHall" (57 : Nat) "JumpHall" "line" "Ljava/lang/StringBuilder;") ∈ lw_all := lw_g (lw_at lw_m2 0 rfl) rfl
theorem q314 : (Jvm.Cond.fieldLink "JumpHall" (362 : Nat) "JumpHall" "typed" "I") ∈ lw_all := lw_g (lw_at lw_m2 1 rfl) rfl
theorem q315 : (Jvm.Cond.fieldLink "JumpHall" (381 : Nat) "JumpHall" "badText" "LJumpHall$BadText;") ∈ lw_all := lw_g (lw_at lw_m2 2 rfl) rfl
theorem q316 : (Jvm.Cond.fieldLink "JumpHall" (83 : Nat) "JumpHall" "hindrance" "LJumpHall$Hindrance;") ∈ lw_all := lw_g (lw_at lw_m2 3 rfl) rfl
theorem q335 : (Jvm.Cond.instanceMethod ({ cls := "JumpHall", name := "save", desc := "()I" } : Jvm.MethodName)) ∈ lw_all := lw_g (lw_at lw_m2 22 rfl) rfl
theorem q336 : (Jvm.Cond.selects "JumpHall" ({ cls := "JumpHall", name := "save", desc := "()I" } : Jvm.MethodName) ({ cls := "JumpHall", name := "save", desc := "()I" } : Jvm.MethodName)) ∈ lw_all := lw_g (lw_at lw_m2 23 rfl) rfl
theorem q337 : (Jvm.Cond.code ({ cls := "JumpHall", name := "save", desc := "()I" } : Jvm.MethodName) prog_1_method_51_code (1 : Nat) (Option.some Jvm.ClassFile.FieldType.int)) ∈ lw_all := lw_g (lw_at lw_m2 24 rfl) rfl
theorem q338 : (Jvm.Cond.methodLink "JumpHall" (61 : Nat) ({ cls := "JumpHall$Hall", name := "copy", desc := "()LJumpHall$Hall;" } : Jvm.MethodName)) ∈ lw_all := lw_g (lw_at lw_m2 25 rfl) rfl
theorem q815 : (Jvm.Cond.fieldLinkNest "JumpHall" (171 : Nat) "JumpHall$Mat" "wear" "[I" "JumpHall") ∈ lw_tbl := lw_at lw_m4 22 rfl
theorem q818 : (Jvm.Cond.fieldLinkNest "JumpHall" (148 : Nat) "JumpHall$Mat" "isClosed" "Z" "JumpHall") ∈ lw_tbl := lw_at lw_m4 25 rfl
theorem q820 : (Jvm.Cond.fieldLinkNest "JumpHall" (167 : Nat) "JumpHall$Mat" "ups" "I" "JumpHall") ∈ lw_tbl := lw_at lw_m4 27 rfl
theorem q912 : (Jvm.Cond.fieldLinkNest "JumpHall" (305 : Nat) "JumpHall$Jumper" "number" "I" "JumpHall") ∈ lw_tbl := lw_at lw_m4 119 rfl
theorem q915 : (Jvm.Cond.fieldLinkNest "JumpHall" (200 : Nat) "JumpHall$Jumper" "weight" "I" "JumpHall") ∈ lw_tbl := lw_at lw_m4 122 rfl
theorem q918 : (Jvm.Cond.fieldLinkNest "JumpHall" (203 : Nat) "JumpHall$Jumper" "size" "I" "JumpHall") ∈ lw_tbl := lw_at lw_m4 125 rfl
theorem q920 : (Jvm.Cond.fieldLinkNest "JumpHall" (217 : Nat) "JumpHall$Jumper" "party" "I" "JumpHall") ∈ lw_tbl := lw_at lw_m4 127 rfl
theorem q923 : (Jvm.Cond.fieldLinkNest "JumpHall" (205 : Nat) "JumpHall$Jumper" "state" "I" "JumpHall") ∈ lw_tbl := lw_at lw_m4 130 rfl
theorem q926 : (Jvm.Cond.fieldLinkNest "JumpHall" (208 : Nat) "JumpHall$Jumper" "mat" "I" "JumpHall") ∈ lw_tbl := lw_at lw_m4 133 rfl
theorem q929 : (Jvm.Cond.fieldLinkNest "JumpHall" (211 : Nat) "JumpHall$Jumper" "colour" "I" "JumpHall") ∈ lw_tbl := lw_at lw_m4 136 rfl
theorem q931 : (Jvm.Cond.fieldLinkNest "JumpHall" (214 : Nat) "JumpHall$Jumper" "minutes" "I" "JumpHall") ∈ lw_tbl := lw_at lw_m4 138 rfl
theorem q963 : (Jvm.Cond.fieldLinkNest "JumpHall" (263 : Nat) "JumpHall$Party" "minute" "I" "JumpHall") ∈ lw_tbl := lw_at lw_m4 170 rfl
theorem q966 : (Jvm.Cond.fieldLinkNest "JumpHall" (266 : Nat) "JumpHall$Party" "children" "I" "JumpHall") ∈ lw_tbl := lw_at lw_m4 173 rfl
theorem q973 : (Jvm.Cond.fieldLinkNest "JumpHall" (269 : Nat) "JumpHall$Party" "state" "I" "JumpHall") ∈ lw_tbl := lw_at lw_m4 180 rfl
theorem q976 : (Jvm.Cond.fieldLinkNest "JumpHall" (270 : Nat) "JumpHall$Party" "came" "I" "JumpHall") ∈ lw_tbl := lw_at lw_m4 183 rfl
theorem q1705 : (Jvm.Cond.methodLink "JumpHall" (71 : Nat) ({ cls := "java/util/ArrayList", name := "size", desc := "()I" } : Jvm.MethodName)) ∈ lw_all := lw_g (lw_at lw_m7 192 rfl) rfl
theorem q1711 : (Jvm.Cond.instanceMethod ({ cls := "JumpHall", name := "mat", desc := "()I" } : Jvm.MethodName)) ∈ lw_all := lw_g (lw_at lw_m7 198 rfl) rfl
theorem q1712 : (Jvm.Cond.selects "JumpHall" ({ cls := "JumpHall", name := "mat", desc := "()I" } : Jvm.MethodName) ({ cls := "JumpHall", name := "mat", desc := "()I" } : Jvm.MethodName)) ∈ lw_all := lw_g (lw_at lw_m7 199 rfl) rfl
theorem q1713 : (Jvm.Cond.code ({ cls := "JumpHall", name := "mat", desc := "()I" } : Jvm.MethodName) prog_1_method_15_code (1 : Nat) (Option.some Jvm.ClassFile.FieldType.int)) ∈ lw_all := lw_g (lw_at lw_m7 200 rfl) rfl
theorem q1714 : (Jvm.Cond.static ({ cls := "JumpHall", name := "lambda$mat$0", desc := "(LJumpHall$Hall;)I" } : Jvm.MethodName)) ∈ lw_all := lw_g (lw_at lw_m7 201 rfl) rfl
theorem q1715 : (Jvm.Cond.code ({ cls := "JumpHall", name := "lambda$mat$0", desc := "(LJumpHall$Hall;)I" } : Jvm.MethodName) prog_1_method_72_code (1 : Nat) (Option.some Jvm.ClassFile.FieldType.int)) ∈ lw_all := lw_g (lw_at lw_m7 202 rfl) rfl
theorem q1716 : (Jvm.Cond.methodLink "JumpHall" (457 : Nat) ({ cls := "JumpHall$Hall", name := "addMat", desc := "()I" } : Jvm.MethodName)) ∈ lw_all := lw_g (lw_at lw_m7 203 rfl) rfl
theorem q1722 : (Jvm.Cond.static ({ cls := "JumpHall", name := "refuse", desc := "(ZII)V" } : Jvm.MethodName)) ∈ lw_all := lw_g (lw_at lw_m7 209 rfl) rfl
theorem q1723 : (Jvm.Cond.code ({ cls := "JumpHall", name := "refuse", desc := "(ZII)V" } : Jvm.MethodName) prog_1_method_8_code (3 : Nat) (Option.none : Option Jvm.ClassFile.FieldType)) ∈ lw_all := lw_g (lw_at lw_m7 210 rfl) rfl
theorem q1724 : (Jvm.Cond.classLink "JumpHall" (25 : Nat) "JumpHall$Refusal") ∈ lw_all := lw_g (lw_at lw_m7 211 rfl) rfl
theorem q1733 : (Jvm.Cond.methodLink "JumpHall" (27 : Nat) ({ cls := "JumpHall$Refusal", name := "<init>", desc := "(II)V" } : Jvm.MethodName)) ∈ lw_all := lw_g (lw_at lw_m7 220 rfl) rfl
theorem q1741 : (Jvm.Cond.fieldLinkNest "JumpHall" (397 : Nat) "JumpHall$Hindrance" "reason" "I" "JumpHall") ∈ lw_tbl := lw_at lw_m7 228 rfl
theorem q1743 : (Jvm.Cond.fieldLinkNest "JumpHall" (394 : Nat) "JumpHall$Hindrance" "detail" "I" "JumpHall") ∈ lw_tbl := lw_at lw_m7 230 rfl
theorem q1751 : (Jvm.Cond.methodLink "JumpHall" (122 : Nat) ({ cls := "JumpHall", name := "does", desc := "(LJumpHall$Deed;)I" } : Jvm.MethodName)) ∈ lw_all := lw_g (lw_at lw_m7 238 rfl) rfl
theorem q1753 : (Jvm.Cond.instanceMethod ({ cls := "JumpHall", name := "does", desc := "(LJumpHall$Deed;)I" } : Jvm.MethodName)) ∈ lw_all := lw_g (lw_at lw_m8 0 rfl) rfl
theorem q1754 : (Jvm.Cond.codeWith ({ cls := "JumpHall", name := "does", desc := "(LJumpHall$Deed;)I" } : Jvm.MethodName) prog_1_method_11_code (4 : Nat) (Option.some Jvm.ClassFile.FieldType.int) [((8 : Nat), (55 : Nat), (56 : Nat), (25 : Nat))]) ∈ lw_all := lw_g (lw_at lw_m8 1 rfl) rfl
theorem q1756 : (Jvm.Cond.methodLink "JumpHall" (65 : Nat) ({ cls := "JumpHall$Deed", name := "in", desc := "(LJumpHall$Hall;)I" } : Jvm.MethodName)) ∈ lw_all := lw_g (lw_at lw_m8 3 rfl) rfl
theorem q1759 : (Jvm.Cond.methodLink "JumpHall" (75 : Nat) ({ cls := "java/util/ArrayList", name := "remove", desc := "(I)Ljava/lang/Object;" } : Jvm.MethodName)) ∈ lw_all := lw_g (lw_at lw_m8 6 rfl) rfl
theorem q1767 : (Jvm.Cond.methodLink "JumpHall" (79 : Nat) ({ cls := "java/util/ArrayList", name := "add", desc := "(Ljava/lang/Object;)Z" } : Jvm.MethodName)) ∈ lw_all := lw_g (lw_at lw_m8 14 rfl) rfl
theorem q1768 : (Jvm.Cond.classLink "JumpHall" (87 : Nat) "java/lang/UnsupportedOperationException") ∈ lw_all := lw_g (lw_at lw_m8 15 rfl) rfl
theorem q1777 : (Jvm.Cond.methodLink "JumpHall" (89 : Nat) ({ cls := "java/lang/UnsupportedOperationException", name := "<init>", desc := "()V" } : Jvm.MethodName)) ∈ lw_all := lw_g (lw_at lw_m8 24 rfl) rfl
theorem q1803 : (Jvm.Cond.instanceMethod ({ cls := "JumpHall", name := "fix", desc := "(II)I" } : Jvm.MethodName)) ∈ lw_all := lw_g (lw_at lw_m8 50 rfl) rfl
theorem q1804 : (Jvm.Cond.selects "JumpHall" ({ cls := "JumpHall", name := "fix", desc := "(II)I" } : Jvm.MethodName) ({ cls := "JumpHall", name := "fix", desc := "(II)I" } : Jvm.MethodName)) ∈ lw_all := lw_g (lw_at lw_m8 51 rfl) rfl
theorem q1805 : (Jvm.Cond.code ({ cls := "JumpHall", name := "fix", desc := "(II)I" } : Jvm.MethodName) prog_1_method_16_code (3 : Nat) (Option.some Jvm.ClassFile.FieldType.int)) ∈ lw_all := lw_g (lw_at lw_m8 52 rfl) rfl
theorem q1806 : (Jvm.Cond.methodLink "JumpHall" (90 : Nat) ({ cls := "JumpHall$Hall", name := "isMat", desc := "(I)Z" } : Jvm.MethodName)) ∈ lw_all := lw_g (lw_at lw_m8 53 rfl) rfl
theorem q1811 : (Jvm.Cond.static ({ cls := "JumpHall", name := "isIn", desc := "(III)Z" } : Jvm.MethodName)) ∈ lw_all := lw_g (lw_at lw_m8 58 rfl) rfl
theorem q1812 : (Jvm.Cond.code ({ cls := "JumpHall", name := "isIn", desc := "(III)Z" } : Jvm.MethodName) prog_1_method_1_code (3 : Nat) (Option.some Jvm.ClassFile.FieldType.boolean)) ∈ lw_all := lw_g (lw_at lw_m8 59 rfl) rfl
theorem q1813 : (Jvm.Cond.methodLink "JumpHall" (3 : Nat) ({ cls := "JumpHall", name := "isIn", desc := "(III)Z" } : Jvm.MethodName)) ∈ lw_all := lw_g (lw_at lw_m8 60 rfl) rfl
theorem q1814 : (Jvm.Cond.methodLink "JumpHall" (94 : Nat) ({ cls := "JumpHall", name := "checkIndex", desc := "(Z)V" } : Jvm.MethodName)) ∈ lw_all := lw_g (lw_at lw_m8 61 rfl) rfl
theorem q1815 : (Jvm.Cond.static ({ cls := "JumpHall", name := "checkIndex", desc := "(Z)V" } : Jvm.MethodName)) ∈ lw_all := lw_g (lw_at lw_m8 62 rfl) rfl
theorem q1816 : (Jvm.Cond.code ({ cls := "JumpHall", name := "checkIndex", desc := "(Z)V" } : Jvm.MethodName) prog_1_method_4_code (1 : Nat) (Option.none : Option Jvm.ClassFile.FieldType)) ∈ lw_all := lw_g (lw_at lw_m8 63 rfl) rfl
theorem q1817 : (Jvm.Cond.classLink "JumpHall" (13 : Nat) "java/lang/IndexOutOfBoundsException") ∈ lw_all := lw_g (lw_at lw_m8 64 rfl) rfl
theorem q1818 : (Jvm.Cond.methodLink "JumpHall" (15 : Nat) ({ cls := "java/lang/IndexOutOfBoundsException", name := "<init>", desc := "()V" } : Jvm.MethodName)) ∈ lw_all := lw_g (lw_at lw_m8 65 rfl) rfl
theorem q1822 : (Jvm.Cond.static ({ cls := "JumpHall", name := "lambda$fix$1", desc := "(IILJumpHall$Hall;)I" } : Jvm.MethodName)) ∈ lw_all := lw_g (lw_at lw_m8 69 rfl) rfl
theorem q1823 : (Jvm.Cond.code ({ cls := "JumpHall", name := "lambda$fix$1", desc := "(IILJumpHall$Hall;)I" } : Jvm.MethodName) prog_1_method_71_code (3 : Nat) (Option.some Jvm.ClassFile.FieldType.int)) ∈ lw_all := lw_g (lw_at lw_m8 70 rfl) rfl
theorem q1824 : (Jvm.Cond.methodLink "JumpHall" (454 : Nat) ({ cls := "JumpHall$Hall", name := "fix", desc := "(II)I" } : Jvm.MethodName)) ∈ lw_all := lw_g (lw_at lw_m8 71 rfl) rfl
theorem q1855 : (Jvm.Cond.instanceMethod ({ cls := "JumpHall", name := "open", desc := "(I)I" } : Jvm.MethodName)) ∈ lw_all := lw_g (lw_at lw_m8 102 rfl) rfl
theorem q1856 : (Jvm.Cond.selects "JumpHall" ({ cls := "JumpHall", name := "open", desc := "(I)I" } : Jvm.MethodName) ({ cls := "JumpHall", name := "open", desc := "(I)I" } : Jvm.MethodName)) ∈ lw_all := lw_g (lw_at lw_m8 103 rfl) rfl
theorem q1857 : (Jvm.Cond.code ({ cls := "JumpHall", name := "open", desc := "(I)I" } : Jvm.MethodName) prog_1_method_17_code (3 : Nat) (Option.some Jvm.ClassFile.FieldType.int)) ∈ lw_all := lw_g (lw_at lw_m8 104 rfl) rfl
theorem q1858 : (Jvm.Cond.methodLink "JumpHall" (129 : Nat) ({ cls := "JumpHall", name := "matAt", desc := "(I)LJumpHall$Mat;" } : Jvm.MethodName)) ∈ lw_all := lw_g (lw_at lw_m8 105 rfl) rfl
theorem q1860 : (Jvm.Cond.instanceMethod ({ cls := "JumpHall", name := "matAt", desc := "(I)LJumpHall$Mat;" } : Jvm.MethodName)) ∈ lw_all := lw_g (lw_at lw_m8 107 rfl) rfl
theorem q1861 : (Jvm.Cond.code ({ cls := "JumpHall", name := "matAt", desc := "(I)LJumpHall$Mat;" } : Jvm.MethodName) prog_1_method_12_code (2 : Nat) (Option.some (Jvm.ClassFile.FieldType.object "JumpHall$Mat"))) ∈ lw_all := lw_g (lw_at lw_m8 108 rfl) rfl
theorem q1862 : (Jvm.Cond.methodLink "JumpHall" (101 : Nat) ({ cls := "java/util/ArrayList", name := "get", desc := "(I)Ljava/lang/Object;" } : Jvm.MethodName)) ∈ lw_all := lw_g (lw_at lw_m8 109 rfl) rfl
theorem q1863 : (Jvm.Cond.classLink "JumpHall" (104 : Nat) "JumpHall$Mat") ∈ lw_all := lw_g (lw_at lw_m8 110 rfl) rfl
theorem q1864 : (Jvm.Cond.static ({ cls := "JumpHall", name := "lambda$open$2", desc := "(ILJumpHall$Hall;)I" } : Jvm.MethodName)) ∈ lw_all := lw_g (lw_at lw_m8 111 rfl) rfl
theorem q1865 : (Jvm.Cond.code ({ cls := "JumpHall", name := "lambda$open$2", desc := "(ILJumpHall$Hall;)I" } : Jvm.MethodName) prog_1_method_70_code (2 : Nat) (Option.some Jvm.ClassFile.FieldType.int)) ∈ lw_all := lw_g (lw_at lw_m8 112 rfl) rfl
theorem q1866 : (Jvm.Cond.methodLink "JumpHall" (451 : Nat) ({ cls := "JumpHall$Hall", name := "open", desc := "(I)I" } : Jvm.MethodName)) ∈ lw_all := lw_g (lw_at lw_m8 113 rfl) rfl
theorem q1875 : (Jvm.Cond.instanceMethod ({ cls := "JumpHall", name := "matOf", desc := "(II)I" } : Jvm.MethodName)) ∈ lw_all := lw_g (lw_at lw_m8 122 rfl) rfl
theorem q1876 : (Jvm.Cond.selects "JumpHall" ({ cls := "JumpHall", name := "matOf", desc := "(II)I" } : Jvm.MethodName) ({ cls := "JumpHall", name := "matOf", desc := "(II)I" } : Jvm.MethodName)) ∈ lw_all := lw_g (lw_at lw_m8 123 rfl) rfl
theorem q1877 : (Jvm.Cond.code ({ cls := "JumpHall", name := "matOf", desc := "(II)I" } : Jvm.MethodName) prog_1_method_18_code (4 : Nat) (Option.some Jvm.ClassFile.FieldType.int)) ∈ lw_all := lw_g (lw_at lw_m8 124 rfl) rfl
theorem q1878 : (Jvm.Cond.methodLink "JumpHall" (136 : Nat) ({ cls := "JumpHall", name := "checkArgument", desc := "(Z)V" } : Jvm.MethodName)) ∈ lw_all := lw_g (lw_at lw_m8 125 rfl) rfl
theorem q1879 : (Jvm.Cond.static ({ cls := "JumpHall", name := "checkArgument", desc := "(Z)V" } : Jvm.MethodName)) ∈ lw_all := lw_g (lw_at lw_m8 126 rfl) rfl
theorem q1880 : (Jvm.Cond.code ({ cls := "JumpHall", name := "checkArgument", desc := "(Z)V" } : Jvm.MethodName) prog_1_method_3_code (1 : Nat) (Option.none : Option Jvm.ClassFile.FieldType)) ∈ lw_all := lw_g (lw_at lw_m8 127 rfl) rfl
theorem q1881 : (Jvm.Cond.classLink "JumpHall" (7 : Nat) "java/lang/IllegalArgumentException") ∈ lw_all := lw_g (lw_at lw_m8 128 rfl) rfl
theorem q1882 : (Jvm.Cond.methodLink "JumpHall" (9 : Nat) ({ cls := "java/lang/IllegalArgumentException", name := "<init>", desc := "()V" } : Jvm.MethodName)) ∈ lw_all := lw_g (lw_at lw_m8 129 rfl) rfl
theorem q1886 : (Jvm.Cond.methodLink "JumpHall" (139 : Nat) ({ cls := "JumpHall$Mat", name := "bears", desc := "()I" } : Jvm.MethodName)) ∈ lw_all := lw_g (lw_at lw_m8 133 rfl) rfl
theorem q1887 : (Jvm.Cond.methodLink "JumpHall" (142 : Nat) ({ cls := "JumpHall$Mat", name := "broken", desc := "()I" } : Jvm.MethodName)) ∈ lw_all := lw_g (lw_at lw_m8 134 rfl) rfl
theorem q1891 : (Jvm.Cond.methodLink "JumpHall" (145 : Nat) ({ cls := "JumpHall$Mat", name := "sum", desc := "()I" } : Jvm.MethodName)) ∈ lw_all := lw_g (lw_at lw_m8 138 rfl) rfl
theorem q1895 : (Jvm.Cond.static ({ cls := "JumpHall", name := "lambda$matOf$3", desc := "(ILJumpHall$Jumper;)Z" } : Jvm.MethodName)) ∈ lw_all := lw_g (lw_at lw_m8 142 rfl) rfl
theorem q1896 : (Jvm.Cond.code ({ cls := "JumpHall", name := "lambda$matOf$3", desc := "(ILJumpHall$Jumper;)Z" } : Jvm.MethodName) prog_1_method_69_code (2 : Nat) (Option.some Jvm.ClassFile.FieldType.boolean)) ∈ lw_all := lw_g (lw_at lw_m8 143 rfl) rfl
theorem q1897 : (Jvm.Cond.methodLink "JumpHall" (302 : Nat) ({ cls := "JumpHall$Jumper", name := "isOn", desc := "(I)Z" } : Jvm.MethodName)) ∈ lw_all := lw_g (lw_at lw_m8 144 rfl) rfl
theorem q1898 : (Jvm.Cond.methodLink "JumpHall" (156 : Nat) ({ cls := "JumpHall$Hall", name := "many", desc := "(LJumpHall$Test;)I" } : Jvm.MethodName)) ∈ lw_all := lw_g (lw_at lw_m8 145 rfl) rfl
theorem q1902 : (Jvm.Cond.methodLink "JumpHall" (160 : Nat) ({ cls := "JumpHall$Hall", name := "weightOn", desc := "(I)I" } : Jvm.MethodName)) ∈ lw_all := lw_g (lw_at lw_m8 149 rfl) rfl
theorem q1912 : (Jvm.Cond.methodLink "JumpHall" (164 : Nat) ({ cls := "JumpHall$Hall", name := "guardAt", desc := "(I)I" } : Jvm.MethodName)) ∈ lw_all := lw_g (lw_at lw_m8 159 rfl) rfl
theorem q1948 : (Jvm.Cond.instanceMethod ({ cls := "JumpHall", name := "wear", desc := "(II)I" } : Jvm.MethodName)) ∈ lw_all := lw_g (lw_at lw_m8 195 rfl) rfl
theorem q1949 : (Jvm.Cond.selects "JumpHall" ({ cls := "JumpHall", name := "wear", desc := "(II)I" } : Jvm.MethodName) ({ cls := "JumpHall", name := "wear", desc := "(II)I" } : Jvm.MethodName)) ∈ lw_all := lw_g (lw_at lw_m8 196 rfl) rfl
theorem q1950 : (Jvm.Cond.code ({ cls := "JumpHall", name := "wear", desc := "(II)I" } : Jvm.MethodName) prog_1_method_19_code (3 : Nat) (Option.some Jvm.ClassFile.FieldType.int)) ∈ lw_all := lw_g (lw_at lw_m8 197 rfl) rfl
theorem q1955 : (Jvm.Cond.instanceMethod ({ cls := "JumpHall", name := "bearsAgain", desc := "(I)I" } : Jvm.MethodName)) ∈ lw_all := lw_g (lw_at lw_m8 202 rfl) rfl
theorem q1956 : (Jvm.Cond.selects "JumpHall" ({ cls := "JumpHall", name := "bearsAgain", desc := "(I)I" } : Jvm.MethodName) ({ cls := "JumpHall", name := "bearsAgain", desc := "(I)I" } : Jvm.MethodName)) ∈ lw_all := lw_g (lw_at lw_m8 203 rfl) rfl
theorem q1957 : (Jvm.Cond.code ({ cls := "JumpHall", name := "bearsAgain", desc := "(I)I" } : Jvm.MethodName) prog_1_method_20_code (2 : Nat) (Option.some Jvm.ClassFile.FieldType.int)) ∈ lw_all := lw_g (lw_at lw_m8 204 rfl) rfl
theorem q1963 : (Jvm.Cond.instanceMethod ({ cls := "JumpHall", name := "lasts", desc := "(I)I" } : Jvm.MethodName)) ∈ lw_all := lw_g (lw_at lw_m8 210 rfl) rfl
theorem q1964 : (Jvm.Cond.selects "JumpHall" ({ cls := "JumpHall", name := "lasts", desc := "(I)I" } : Jvm.MethodName) ({ cls := "JumpHall", name := "lasts", desc := "(I)I" } : Jvm.MethodName)) ∈ lw_all := lw_g (lw_at lw_m8 211 rfl) rfl
theorem q1965 : (Jvm.Cond.code ({ cls := "JumpHall", name := "lasts", desc := "(I)I" } : Jvm.MethodName) prog_1_method_21_code (3 : Nat) (Option.some Jvm.ClassFile.FieldType.int)) ∈ lw_all := lw_g (lw_at lw_m8 212 rfl) rfl
theorem q1966 : (Jvm.Cond.methodLink "JumpHall" (175 : Nat) ({ cls := "JumpHall", name := "checkElement", desc := "(Z)V" } : Jvm.MethodName)) ∈ lw_all := lw_g (lw_at lw_m8 213 rfl) rfl
theorem q1967 : (Jvm.Cond.static ({ cls := "JumpHall", name := "checkElement", desc := "(Z)V" } : Jvm.MethodName)) ∈ lw_all := lw_g (lw_at lw_m8 214 rfl) rfl
theorem q1968 : (Jvm.Cond.code ({ cls := "JumpHall", name := "checkElement", desc := "(Z)V" } : Jvm.MethodName) prog_1_method_6_code (1 : Nat) (Option.none : Option Jvm.ClassFile.FieldType)) ∈ lw_all := lw_g (lw_at lw_m8 215 rfl) rfl
theorem q1969 : (Jvm.Cond.classLink "JumpHall" (19 : Nat) "java/util/NoSuchElementException") ∈ lw_all := lw_g (lw_at lw_m8 216 rfl) rfl
theorem q1970 : (Jvm.Cond.methodLink "JumpHall" (21 : Nat) ({ cls := "java/util/NoSuchElementException", name := "<init>", desc := "()V" } : Jvm.MethodName)) ∈ lw_all := lw_g (lw_at lw_m8 217 rfl) rfl
theorem q1971 : (Jvm.Cond.methodLink "JumpHall" (178 : Nat) ({ cls := "JumpHall$Hall", name := "lasts", desc := "(I)I" } : Jvm.MethodName)) ∈ lw_all := lw_g (lw_at lw_m8 218 rfl) rfl
theorem q1985 : (Jvm.Cond.instanceMethod ({ cls := "JumpHall", name := "bestMat", desc := "()I" } : Jvm.MethodName)) ∈ lw_all := lw_g (lw_at lw_m8 232 rfl) rfl
theorem q1986 : (Jvm.Cond.selects "JumpHall" ({ cls := "JumpHall", name := "bestMat", desc := "()I" } : Jvm.MethodName) ({ cls := "JumpHall", name := "bestMat", desc := "()I" } : Jvm.MethodName)) ∈ lw_all := lw_g (lw_at lw_m8 233 rfl) rfl
theorem q1987 : (Jvm.Cond.code ({ cls := "JumpHall", name := "bestMat", desc := "()I" } : Jvm.MethodName) prog_1_method_22_code (2 : Nat) (Option.some Jvm.ClassFile.FieldType.int)) ∈ lw_all := lw_g (lw_at lw_m8 234 rfl) rfl
theorem q1988 : (Jvm.Cond.methodLink "JumpHall" (181 : Nat) ({ cls := "JumpHall$Hall", name := "bestMat", desc := "()I" } : Jvm.MethodName)) ∈ lw_all := lw_g (lw_at lw_m8 235 rfl) rfl
theorem q1997 : (Jvm.Cond.instanceMethod ({ cls := "JumpHall", name := "jumper", desc := "(II)I" } : Jvm.MethodName)) ∈ lw_all := lw_g (lw_at lw_m9 4 rfl) rfl
theorem q1998 : (Jvm.Cond.selects "JumpHall" ({ cls := "JumpHall", name := "jumper", desc := "(II)I" } : Jvm.MethodName) ({ cls := "JumpHall", name := "jumper", desc := "(II)I" } : Jvm.MethodName)) ∈ lw_all := lw_g (lw_at lw_m9 5 rfl) rfl
theorem q1999 : (Jvm.Cond.code ({ cls := "JumpHall", name := "jumper", desc := "(II)I" } : Jvm.MethodName) prog_1_method_23_code (3 : Nat) (Option.some Jvm.ClassFile.FieldType.int)) ∈ lw_all := lw_g (lw_at lw_m9 6 rfl) rfl
theorem q2000 : (Jvm.Cond.static ({ cls := "JumpHall", name := "lambda$jumper$4", desc := "(IILJumpHall$Hall;)I" } : Jvm.MethodName)) ∈ lw_all := lw_g (lw_at lw_m9 7 rfl) rfl
theorem q2001 : (Jvm.Cond.code ({ cls := "JumpHall", name := "lambda$jumper$4", desc := "(IILJumpHall$Hall;)I" } : Jvm.MethodName) prog_1_method_68_code (3 : Nat) (Option.some Jvm.ClassFile.FieldType.int)) ∈ lw_all := lw_g (lw_at lw_m9 8 rfl) rfl
theorem q2002 : (Jvm.Cond.methodLink "JumpHall" (447 : Nat) ({ cls := "JumpHall$Hall", name := "addJumper", desc := "(III)I" } : Jvm.MethodName)) ∈ lw_all := lw_g (lw_at lw_m9 9 rfl) rfl
theorem q2011 : (Jvm.Cond.instanceMethod ({ cls := "JumpHall", name := "up", desc := "(II)I" } : Jvm.MethodName)) ∈ lw_all := lw_g (lw_at lw_m9 18 rfl) rfl
theorem q2012 : (Jvm.Cond.selects "JumpHall" ({ cls := "JumpHall", name := "up", desc := "(II)I" } : Jvm.MethodName) ({ cls := "JumpHall", name := "up", desc := "(II)I" } : Jvm.MethodName)) ∈ lw_all := lw_g (lw_at lw_m9 19 rfl) rfl
theorem q2013 : (Jvm.Cond.code ({ cls := "JumpHall", name := "up", desc := "(II)I" } : Jvm.MethodName) prog_1_method_24_code (3 : Nat) (Option.some Jvm.ClassFile.FieldType.int)) ∈ lw_all := lw_g (lw_at lw_m9 20 rfl) rfl
theorem q2014 : (Jvm.Cond.methodLink "JumpHall" (106 : Nat) ({ cls := "JumpHall$Hall", name := "isJumper", desc := "(I)Z" } : Jvm.MethodName)) ∈ lw_all := lw_g (lw_at lw_m9 21 rfl) rfl
theorem q2018 : (Jvm.Cond.static ({ cls := "JumpHall", name := "lambda$up$5", desc := "(IILJumpHall$Hall;)I" } : Jvm.MethodName)) ∈ lw_all := lw_g (lw_at lw_m9 25 rfl) rfl
theorem q2019 : (Jvm.Cond.code ({ cls := "JumpHall", name := "lambda$up$5", desc := "(IILJumpHall$Hall;)I" } : Jvm.MethodName) prog_1_method_67_code (3 : Nat) (Option.some Jvm.ClassFile.FieldType.int)) ∈ lw_all := lw_g (lw_at lw_m9 26 rfl) rfl
theorem q2020 : (Jvm.Cond.methodLink "JumpHall" (444 : Nat) ({ cls := "JumpHall$Hall", name := "up", desc := "(II)I" } : Jvm.MethodName)) ∈ lw_all := lw_g (lw_at lw_m9 27 rfl) rfl
theorem q2179 : (Jvm.Cond.instanceMethod ({ cls := "JumpHall", name := "down", desc := "(I)I" } : Jvm.MethodName)) ∈ lw_all := lw_g (lw_at lw_m9 186 rfl) rfl
theorem q2180 : (Jvm.Cond.selects "JumpHall" ({ cls := "JumpHall", name := "down", desc := "(I)I" } : Jvm.MethodName) ({ cls := "JumpHall", name := "down", desc := "(I)I" } : Jvm.MethodName)) ∈ lw_all := lw_g (lw_at lw_m9 187 rfl) rfl
theorem q2181 : (Jvm.Cond.code ({ cls := "JumpHall", name := "down", desc := "(I)I" } : Jvm.MethodName) prog_1_method_25_code (3 : Nat) (Option.some Jvm.ClassFile.FieldType.int)) ∈ lw_all := lw_g (lw_at lw_m9 188 rfl) rfl
theorem q2182 : (Jvm.Cond.methodLink "JumpHall" (186 : Nat) ({ cls := "JumpHall", name := "jumperAt", desc := "(I)LJumpHall$Jumper;" } : Jvm.MethodName)) ∈ lw_all := lw_g (lw_at lw_m9 189 rfl) rfl
theorem q2184 : (Jvm.Cond.instanceMethod ({ cls := "JumpHall", name := "jumperAt", desc := "(I)LJumpHall$Jumper;" } : Jvm.MethodName)) ∈ lw_all := lw_g (lw_at lw_m9 191 rfl) rfl
theorem q2185 : (Jvm.Cond.code ({ cls := "JumpHall", name := "jumperAt", desc := "(I)LJumpHall$Jumper;" } : Jvm.MethodName) prog_1_method_13_code (2 : Nat) (Option.some (Jvm.ClassFile.FieldType.object "JumpHall$Jumper"))) ∈ lw_all := lw_g (lw_at lw_m9 192 rfl) rfl
theorem q2186 : (Jvm.Cond.classLink "JumpHall" (112 : Nat) "JumpHall$Jumper") ∈ lw_all := lw_g (lw_at lw_m9 193 rfl) rfl
theorem q2187 : (Jvm.Cond.static ({ cls := "JumpHall", name := "lambda$down$6", desc := "(ILJumpHall$Hall;)I" } : Jvm.MethodName)) ∈ lw_all := lw_g (lw_at lw_m9 194 rfl) rfl
theorem q2188 : (Jvm.Cond.code ({ cls := "JumpHall", name := "lambda$down$6", desc := "(ILJumpHall$Hall;)I" } : Jvm.MethodName) prog_1_method_66_code (2 : Nat) (Option.some Jvm.ClassFile.FieldType.int)) ∈ lw_all := lw_g (lw_at lw_m9 195 rfl) rfl
theorem q2189 : (Jvm.Cond.methodLink "JumpHall" (441 : Nat) ({ cls := "JumpHall$Hall", name := "down", desc := "(I)I" } : Jvm.MethodName)) ∈ lw_all := lw_g (lw_at lw_m9 196 rfl) rfl
theorem q2201 : (Jvm.Cond.instanceMethod ({ cls := "JumpHall", name := "leave", desc := "(I)I" } : Jvm.MethodName)) ∈ lw_all := lw_g (lw_at lw_m9 208 rfl) rfl
theorem q2202 : (Jvm.Cond.selects "JumpHall" ({ cls := "JumpHall", name := "leave", desc := "(I)I" } : Jvm.MethodName) ({ cls := "JumpHall", name := "leave", desc := "(I)I" } : Jvm.MethodName)) ∈ lw_all := lw_g (lw_at lw_m9 209 rfl) rfl
theorem q2203 : (Jvm.Cond.code ({ cls := "JumpHall", name := "leave", desc := "(I)I" } : Jvm.MethodName) prog_1_method_26_code (3 : Nat) (Option.some Jvm.ClassFile.FieldType.int)) ∈ lw_all := lw_g (lw_at lw_m9 210 rfl) rfl
theorem q2204 : (Jvm.Cond.static ({ cls := "JumpHall", name := "lambda$leave$7", desc := "(ILJumpHall$Hall;)I" } : Jvm.MethodName)) ∈ lw_all := lw_g (lw_at lw_m9 211 rfl) rfl
theorem q2205 : (Jvm.Cond.code ({ cls := "JumpHall", name := "lambda$leave$7", desc := "(ILJumpHall$Hall;)I" } : Jvm.MethodName) prog_1_method_65_code (2 : Nat) (Option.some Jvm.ClassFile.FieldType.int)) ∈ lw_all := lw_g (lw_at lw_m9 212 rfl) rfl
theorem q2206 : (Jvm.Cond.methodLink "JumpHall" (438 : Nat) ({ cls := "JumpHall$Hall", name := "leave", desc := "(I)I" } : Jvm.MethodName)) ∈ lw_all := lw_g (lw_at lw_m9 213 rfl) rfl
theorem q2220 : (Jvm.Cond.instanceMethod ({ cls := "JumpHall", name := "stock", desc := "(III)I" } : Jvm.MethodName)) ∈ lw_all := lw_g (lw_at lw_m9 227 rfl) rfl
theorem q2221 : (Jvm.Cond.selects "JumpHall" ({ cls := "JumpHall", name := "stock", desc := "(III)I" } : Jvm.MethodName) ({ cls := "JumpHall", name := "stock", desc := "(III)I" } : Jvm.MethodName)) ∈ lw_all := lw_g (lw_at lw_m9 228 rfl) rfl
theorem q2222 : (Jvm.Cond.code ({ cls := "JumpHall", name := "stock", desc := "(III)I" } : Jvm.MethodName) prog_1_method_27_code (4 : Nat) (Option.some Jvm.ClassFile.FieldType.int)) ∈ lw_all := lw_g (lw_at lw_m9 229 rfl) rfl
theorem q2223 : (Jvm.Cond.methodLink "JumpHall" (192 : Nat) ({ cls := "JumpHall", name := "areSocks", desc := "(II)Z" } : Jvm.MethodName)) ∈ lw_all := lw_g (lw_at lw_m9 230 rfl) rfl
theorem q2224 : (Jvm.Cond.static ({ cls := "JumpHall", name := "areSocks", desc := "(II)Z" } : Jvm.MethodName)) ∈ lw_all := lw_g (lw_at lw_m9 231 rfl) rfl
theorem q2225 : (Jvm.Cond.code ({ cls := "JumpHall", name := "areSocks", desc := "(II)Z" } : Jvm.MethodName) prog_1_method_2_code (2 : Nat) (Option.some Jvm.ClassFile.FieldType.boolean)) ∈ lw_all := lw_g (lw_at lw_m9 232 rfl) rfl
theorem q2226 : (Jvm.Cond.static ({ cls := "JumpHall", name := "lambda$stock$8", desc := "(IIILJumpHall$Hall;)I" } : Jvm.MethodName)) ∈ lw_all := lw_g (lw_at lw_m9 233 rfl) rfl
theorem q2227 : (Jvm.Cond.code ({ cls := "JumpHall", name := "lambda$stock$8", desc := "(IIILJumpHall$Hall;)I" } : Jvm.MethodName) prog_1_method_64_code (4 : Nat) (Option.some Jvm.ClassFile.FieldType.int)) ∈ lw_all := lw_g (lw_at lw_m9 234 rfl) rfl
theorem q2228 : (Jvm.Cond.classLink "JumpHall" (227 : Nat) "JumpHall$Socks") ∈ lw_all := lw_g (lw_at lw_m9 235 rfl) rfl
theorem q2230 : (Jvm.Cond.methodLink "JumpHall" (229 : Nat) ({ cls := "JumpHall$Socks", name := "<init>", desc := "(II)V" } : Jvm.MethodName)) ∈ lw_all := lw_g (lw_at lw_m9 237 rfl) rfl
theorem q2242 : (Jvm.Cond.methodLink "JumpHall" (434 : Nat) ({ cls := "JumpHall$Shelf", name := "puts", desc := "(LJumpHall$Socks;I)I" } : Jvm.MethodName)) ∈ lw_all := lw_g (lw_at lw_m10 9 rfl) rfl
theorem q2278 : (Jvm.Cond.instanceMethod ({ cls := "JumpHall", name := "sell", desc := "(II)I" } : Jvm.MethodName)) ∈ lw_all := lw_g (lw_at lw_m10 45 rfl) rfl
theorem q2279 : (Jvm.Cond.selects "JumpHall" ({ cls := "JumpHall", name := "sell", desc := "(II)I" } : Jvm.MethodName) ({ cls := "JumpHall", name := "sell", desc := "(II)I" } : Jvm.MethodName)) ∈ lw_all := lw_g (lw_at lw_m10 46 rfl) rfl
theorem q2280 : (Jvm.Cond.code ({ cls := "JumpHall", name := "sell", desc := "(II)I" } : Jvm.MethodName) prog_1_method_28_code (4 : Nat) (Option.some Jvm.ClassFile.FieldType.int)) ∈ lw_all := lw_g (lw_at lw_m10 47 rfl) rfl
theorem q2281 : (Jvm.Cond.static ({ cls := "JumpHall", name := "lambda$sell$9", desc := "(IILJumpHall$Hall;)I" } : Jvm.MethodName)) ∈ lw_all := lw_g (lw_at lw_m10 48 rfl) rfl
theorem q2282 : (Jvm.Cond.code ({ cls := "JumpHall", name := "lambda$sell$9", desc := "(IILJumpHall$Hall;)I" } : Jvm.MethodName) prog_1_method_63_code (3 : Nat) (Option.some Jvm.ClassFile.FieldType.int)) ∈ lw_all := lw_g (lw_at lw_m10 49 rfl) rfl
theorem q2283 : (Jvm.Cond.methodLink "JumpHall" (431 : Nat) ({ cls := "JumpHall$Hall", name := "sell", desc := "(II)I" } : Jvm.MethodName)) ∈ lw_all := lw_g (lw_at lw_m10 50 rfl) rfl
theorem q2312 : (Jvm.Cond.instanceMethod ({ cls := "JumpHall", name := "jumperOf", desc := "(II)I" } : Jvm.MethodName)) ∈ lw_all := lw_g (lw_at lw_m10 79 rfl) rfl
theorem q2313 : (Jvm.Cond.selects "JumpHall" ({ cls := "JumpHall", name := "jumperOf", desc := "(II)I" } : Jvm.MethodName) ({ cls := "JumpHall", name := "jumperOf", desc := "(II)I" } : Jvm.MethodName)) ∈ lw_all := lw_g (lw_at lw_m10 80 rfl) rfl
theorem q2314 : (Jvm.Cond.code ({ cls := "JumpHall", name := "jumperOf", desc := "(II)I" } : Jvm.MethodName) prog_1_method_29_code (4 : Nat) (Option.some Jvm.ClassFile.FieldType.int)) ∈ lw_all := lw_g (lw_at lw_m10 81 rfl) rfl
theorem q2319 : (Jvm.Cond.instanceMethod ({ cls := "JumpHall", name := "socks", desc := "(IIZ)I" } : Jvm.MethodName)) ∈ lw_all := lw_g (lw_at lw_m10 86 rfl) rfl
theorem q2320 : (Jvm.Cond.selects "JumpHall" ({ cls := "JumpHall", name := "socks", desc := "(IIZ)I" } : Jvm.MethodName) ({ cls := "JumpHall", name := "socks", desc := "(IIZ)I" } : Jvm.MethodName)) ∈ lw_all := lw_g (lw_at lw_m10 87 rfl) rfl
theorem q2321 : (Jvm.Cond.code ({ cls := "JumpHall", name := "socks", desc := "(IIZ)I" } : Jvm.MethodName) prog_1_method_30_code (4 : Nat) (Option.some Jvm.ClassFile.FieldType.int)) ∈ lw_all := lw_g (lw_at lw_m10 88 rfl) rfl
theorem q2322 : (Jvm.Cond.methodLink "JumpHall" (230 : Nat) ({ cls := "JumpHall$Shelf", name := "of", desc := "(LJumpHall$Socks;)I" } : Jvm.MethodName)) ∈ lw_all := lw_g (lw_at lw_m10 89 rfl) rfl
theorem q2327 : (Jvm.Cond.instanceMethod ({ cls := "JumpHall", name := "bestSize", desc := "()I" } : Jvm.MethodName)) ∈ lw_all := lw_g (lw_at lw_m10 94 rfl) rfl
theorem q2328 : (Jvm.Cond.selects "JumpHall" ({ cls := "JumpHall", name := "bestSize", desc := "()I" } : Jvm.MethodName) ({ cls := "JumpHall", name := "bestSize", desc := "()I" } : Jvm.MethodName)) ∈ lw_all := lw_g (lw_at lw_m10 95 rfl) rfl
theorem q2329 : (Jvm.Cond.code ({ cls := "JumpHall", name := "bestSize", desc := "()I" } : Jvm.MethodName) prog_1_method_31_code (2 : Nat) (Option.some Jvm.ClassFile.FieldType.int)) ∈ lw_all := lw_g (lw_at lw_m10 96 rfl) rfl
theorem q2330 : (Jvm.Cond.methodLink "JumpHall" (236 : Nat) ({ cls := "JumpHall$Hall", name := "bestSize", desc := "()I" } : Jvm.MethodName)) ∈ lw_all := lw_g (lw_at lw_m10 97 rfl) rfl
theorem q2339 : (Jvm.Cond.instanceMethod ({ cls := "JumpHall", name := "matFor", desc := "(I)I" } : Jvm.MethodName)) ∈ lw_all := lw_g (lw_at lw_m10 106 rfl) rfl
theorem q2340 : (Jvm.Cond.selects "JumpHall" ({ cls := "JumpHall", name := "matFor", desc := "(I)I" } : Jvm.MethodName) ({ cls := "JumpHall", name := "matFor", desc := "(I)I" } : Jvm.MethodName)) ∈ lw_all := lw_g (lw_at lw_m10 107 rfl) rfl
theorem q2341 : (Jvm.Cond.code ({ cls := "JumpHall", name := "matFor", desc := "(I)I" } : Jvm.MethodName) prog_1_method_32_code (4 : Nat) (Option.some Jvm.ClassFile.FieldType.int)) ∈ lw_all := lw_g (lw_at lw_m10 108 rfl) rfl
theorem q2342 : (Jvm.Cond.methodLink "JumpHall" (239 : Nat) ({ cls := "JumpHall$Hall", name := "matFor", desc := "(I)I" } : Jvm.MethodName)) ∈ lw_all := lw_g (lw_at lw_m10 109 rfl) rfl
theorem q2350 : (Jvm.Cond.instanceMethod ({ cls := "JumpHall", name := "guard", desc := "()I" } : Jvm.MethodName)) ∈ lw_all := lw_g (lw_at lw_m10 117 rfl) rfl
theorem q2351 : (Jvm.Cond.selects "JumpHall" ({ cls := "JumpHall", name := "guard", desc := "()I" } : Jvm.MethodName) ({ cls := "JumpHall", name := "guard", desc := "()I" } : Jvm.MethodName)) ∈ lw_all := lw_g (lw_at lw_m10 118 rfl) rfl
theorem q2352 : (Jvm.Cond.code ({ cls := "JumpHall", name := "guard", desc := "()I" } : Jvm.MethodName) prog_1_method_33_code (1 : Nat) (Option.some Jvm.ClassFile.FieldType.int)) ∈ lw_all := lw_g (lw_at lw_m10 119 rfl) rfl
theorem q2353 : (Jvm.Cond.static ({ cls := "JumpHall", name := "lambda$guard$10", desc := "(LJumpHall$Hall;)I" } : Jvm.MethodName)) ∈ lw_all := lw_g (lw_at lw_m10 120 rfl) rfl
theorem q2354 : (Jvm.Cond.code ({ cls := "JumpHall", name := "lambda$guard$10", desc := "(LJumpHall$Hall;)I" } : Jvm.MethodName) prog_1_method_62_code (1 : Nat) (Option.some Jvm.ClassFile.FieldType.int)) ∈ lw_all := lw_g (lw_at lw_m10 121 rfl) rfl
theorem q2355 : (Jvm.Cond.methodLink "JumpHall" (428 : Nat) ({ cls := "JumpHall$Hall", name := "addGuard", desc := "()I" } : Jvm.MethodName)) ∈ lw_all := lw_g (lw_at lw_m10 122 rfl) rfl
theorem q2363 : (Jvm.Cond.instanceMethod ({ cls := "JumpHall", name := "place", desc := "(II)I" } : Jvm.MethodName)) ∈ lw_all := lw_g (lw_at lw_m10 130 rfl) rfl
theorem q2364 : (Jvm.Cond.selects "JumpHall" ({ cls := "JumpHall", name := "place", desc := "(II)I" } : Jvm.MethodName) ({ cls := "JumpHall", name := "place", desc := "(II)I" } : Jvm.MethodName)) ∈ lw_all := lw_g (lw_at lw_m10 131 rfl) rfl
theorem q2365 : (Jvm.Cond.code ({ cls := "JumpHall", name := "place", desc := "(II)I" } : Jvm.MethodName) prog_1_method_34_code (3 : Nat) (Option.some Jvm.ClassFile.FieldType.int)) ∈ lw_all := lw_g (lw_at lw_m10 132 rfl) rfl
theorem q2366 : (Jvm.Cond.methodLink "JumpHall" (243 : Nat) ({ cls := "JumpHall$Hall", name := "isGuard", desc := "(I)Z" } : Jvm.MethodName)) ∈ lw_all := lw_g (lw_at lw_m10 133 rfl) rfl
theorem q2370 : (Jvm.Cond.static ({ cls := "JumpHall", name := "lambda$place$11", desc := "(IILJumpHall$Hall;)I" } : Jvm.MethodName)) ∈ lw_all := lw_g (lw_at lw_m10 137 rfl) rfl
theorem q2371 : (Jvm.Cond.code ({ cls := "JumpHall", name := "lambda$place$11", desc := "(IILJumpHall$Hall;)I" } : Jvm.MethodName) prog_1_method_61_code (3 : Nat) (Option.some Jvm.ClassFile.FieldType.int)) ∈ lw_all := lw_g (lw_at lw_m10 138 rfl) rfl
theorem q2372 : (Jvm.Cond.methodLink "JumpHall" (424 : Nat) ({ cls := "JumpHall$Hall", name := "place", desc := "(II)I" } : Jvm.MethodName)) ∈ lw_all := lw_g (lw_at lw_m10 139 rfl) rfl
theorem q2385 : (Jvm.Cond.instanceMethod ({ cls := "JumpHall", name := "at", desc := "(I)I" } : Jvm.MethodName)) ∈ lw_all := lw_g (lw_at lw_m10 152 rfl) rfl
theorem q2386 : (Jvm.Cond.selects "JumpHall" ({ cls := "JumpHall", name := "at", desc := "(I)I" } : Jvm.MethodName) ({ cls := "JumpHall", name := "at", desc := "(I)I" } : Jvm.MethodName)) ∈ lw_all := lw_g (lw_at lw_m10 153 rfl) rfl
theorem q2387 : (Jvm.Cond.code ({ cls := "JumpHall", name := "at", desc := "(I)I" } : Jvm.MethodName) prog_1_method_35_code (3 : Nat) (Option.some Jvm.ClassFile.FieldType.int)) ∈ lw_all := lw_g (lw_at lw_m10 154 rfl) rfl
theorem q2388 : (Jvm.Cond.classLink "JumpHall" (250 : Nat) "java/lang/Integer") ∈ lw_all := lw_g (lw_at lw_m10 155 rfl) rfl
theorem q2389 : (Jvm.Cond.methodLink "JumpHall" (252 : Nat) ({ cls := "java/lang/Integer", name := "intValue", desc := "()I" } : Jvm.MethodName)) ∈ lw_all := lw_g (lw_at lw_m10 156 rfl) rfl
theorem q2394 : (Jvm.Cond.instanceMethod ({ cls := "JumpHall", name := "book", desc := "(IIII)I" } : Jvm.MethodName)) ∈ lw_all := lw_g (lw_at lw_m10 161 rfl) rfl
theorem q2395 : (Jvm.Cond.selects "JumpHall" ({ cls := "JumpHall", name := "book", desc := "(IIII)I" } : Jvm.MethodName) ({ cls := "JumpHall", name := "book", desc := "(IIII)I" } : Jvm.MethodName)) ∈ lw_all := lw_g (lw_at lw_m10 162 rfl) rfl
theorem q2396 : (Jvm.Cond.code ({ cls := "JumpHall", name := "book", desc := "(IIII)I" } : Jvm.MethodName) prog_1_method_36_code (5 : Nat) (Option.some Jvm.ClassFile.FieldType.int)) ∈ lw_all := lw_g (lw_at lw_m10 163 rfl) rfl
theorem q2397 : (Jvm.Cond.static ({ cls := "JumpHall", name := "lambda$book$12", desc := "(IIIILJumpHall$Hall;)I" } : Jvm.MethodName)) ∈ lw_all := lw_g (lw_at lw_m10 164 rfl) rfl
theorem q2398 : (Jvm.Cond.code ({ cls := "JumpHall", name := "lambda$book$12", desc := "(IIIILJumpHall$Hall;)I" } : Jvm.MethodName) prog_1_method_60_code (5 : Nat) (Option.some Jvm.ClassFile.FieldType.int)) ∈ lw_all := lw_g (lw_at lw_m10 165 rfl) rfl
theorem q2399 : (Jvm.Cond.methodLink "JumpHall" (420 : Nat) ({ cls := "JumpHall$Hall", name := "book", desc := "(IIII)I" } : Jvm.MethodName)) ∈ lw_all := lw_g (lw_at lw_m10 166 rfl) rfl
theorem q2412 : (Jvm.Cond.instanceMethod ({ cls := "JumpHall", name := "cancel", desc := "(I)I" } : Jvm.MethodName)) ∈ lw_all := lw_g (lw_at lw_m10 179 rfl) rfl
theorem q2413 : (Jvm.Cond.selects "JumpHall" ({ cls := "JumpHall", name := "cancel", desc := "(I)I" } : Jvm.MethodName) ({ cls := "JumpHall", name := "cancel", desc := "(I)I" } : Jvm.MethodName)) ∈ lw_all := lw_g (lw_at lw_m10 180 rfl) rfl
theorem q2414 : (Jvm.Cond.code ({ cls := "JumpHall", name := "cancel", desc := "(I)I" } : Jvm.MethodName) prog_1_method_37_code (3 : Nat) (Option.some Jvm.ClassFile.FieldType.int)) ∈ lw_all := lw_g (lw_at lw_m10 181 rfl) rfl
theorem q2415 : (Jvm.Cond.methodLink "JumpHall" (258 : Nat) ({ cls := "JumpHall", name := "partyAt", desc := "(I)LJumpHall$Party;" } : Jvm.MethodName)) ∈ lw_all := lw_g (lw_at lw_m10 182 rfl) rfl
theorem q2417 : (Jvm.Cond.instanceMethod ({ cls := "JumpHall", name := "partyAt", desc := "(I)LJumpHall$Party;" } : Jvm.MethodName)) ∈ lw_all := lw_g (lw_at lw_m10 184 rfl) rfl
theorem q2418 : (Jvm.Cond.code ({ cls := "JumpHall", name := "partyAt", desc := "(I)LJumpHall$Party;" } : Jvm.MethodName) prog_1_method_14_code (2 : Nat) (Option.some (Jvm.ClassFile.FieldType.object "JumpHall$Party"))) ∈ lw_all := lw_g (lw_at lw_m10 185 rfl) rfl
theorem q2419 : (Jvm.Cond.classLink "JumpHall" (117 : Nat) "JumpHall$Party") ∈ lw_all := lw_g (lw_at lw_m10 186 rfl) rfl
theorem q2420 : (Jvm.Cond.static ({ cls := "JumpHall", name := "lambda$cancel$13", desc := "(ILJumpHall$Hall;)I" } : Jvm.MethodName)) ∈ lw_all := lw_g (lw_at lw_m10 187 rfl) rfl
theorem q2421 : (Jvm.Cond.code ({ cls := "JumpHall", name := "lambda$cancel$13", desc := "(ILJumpHall$Hall;)I" } : Jvm.MethodName) prog_1_method_59_code (2 : Nat) (Option.some Jvm.ClassFile.FieldType.int)) ∈ lw_all := lw_g (lw_at lw_m10 188 rfl) rfl
theorem q2422 : (Jvm.Cond.methodLink "JumpHall" (417 : Nat) ({ cls := "JumpHall$Hall", name := "cancel", desc := "(I)I" } : Jvm.MethodName)) ∈ lw_all := lw_g (lw_at lw_m10 189 rfl) rfl
theorem q2434 : (Jvm.Cond.instanceMethod ({ cls := "JumpHall", name := "partyOf", desc := "(II)I" } : Jvm.MethodName)) ∈ lw_all := lw_g (lw_at lw_m10 201 rfl) rfl
theorem q2435 : (Jvm.Cond.selects "JumpHall" ({ cls := "JumpHall", name := "partyOf", desc := "(II)I" } : Jvm.MethodName) ({ cls := "JumpHall", name := "partyOf", desc := "(II)I" } : Jvm.MethodName)) ∈ lw_all := lw_g (lw_at lw_m10 202 rfl) rfl
theorem q2436 : (Jvm.Cond.code ({ cls := "JumpHall", name := "partyOf", desc := "(II)I" } : Jvm.MethodName) prog_1_method_38_code (4 : Nat) (Option.some Jvm.ClassFile.FieldType.int)) ∈ lw_all := lw_g (lw_at lw_m10 203 rfl) rfl
theorem q2441 : (Jvm.Cond.instanceMethod ({ cls := "JumpHall", name := "nextParty", desc := "()I" } : Jvm.MethodName)) ∈ lw_all := lw_g (lw_at lw_m10 208 rfl) rfl
theorem q2442 : (Jvm.Cond.selects "JumpHall" ({ cls := "JumpHall", name := "nextParty", desc := "()I" } : Jvm.MethodName) ({ cls := "JumpHall", name := "nextParty", desc := "()I" } : Jvm.MethodName)) ∈ lw_all := lw_g (lw_at lw_m10 209 rfl) rfl
theorem q2443 : (Jvm.Cond.code ({ cls := "JumpHall", name := "nextParty", desc := "()I" } : Jvm.MethodName) prog_1_method_39_code (2 : Nat) (Option.some Jvm.ClassFile.FieldType.int)) ∈ lw_all := lw_g (lw_at lw_m10 210 rfl) rfl
theorem q2444 : (Jvm.Cond.methodLink "JumpHall" (273 : Nat) ({ cls := "JumpHall$Hall", name := "nextParty", desc := "()I" } : Jvm.MethodName)) ∈ lw_all := lw_g (lw_at lw_m10 211 rfl) rfl
theorem q2452 : (Jvm.Cond.instanceMethod ({ cls := "JumpHall", name := "pass", desc := "(I)I" } : Jvm.MethodName)) ∈ lw_all := lw_g (lw_at lw_m10 219 rfl) rfl
theorem q2453 : (Jvm.Cond.selects "JumpHall" ({ cls := "JumpHall", name := "pass", desc := "(I)I" } : Jvm.MethodName) ({ cls := "JumpHall", name := "pass", desc := "(I)I" } : Jvm.MethodName)) ∈ lw_all := lw_g (lw_at lw_m10 220 rfl) rfl
theorem q2454 : (Jvm.Cond.code ({ cls := "JumpHall", name := "pass", desc := "(I)I" } : Jvm.MethodName) prog_1_method_40_code (2 : Nat) (Option.some Jvm.ClassFile.FieldType.int)) ∈ lw_all := lw_g (lw_at lw_m10 221 rfl) rfl
theorem q2455 : (Jvm.Cond.static ({ cls := "JumpHall", name := "lambda$pass$14", desc := "(ILJumpHall$Hall;)I" } : Jvm.MethodName)) ∈ lw_all := lw_g (lw_at lw_m10 222 rfl) rfl
theorem q2456 : (Jvm.Cond.code ({ cls := "JumpHall", name := "lambda$pass$14", desc := "(ILJumpHall$Hall;)I" } : Jvm.MethodName) prog_1_method_58_code (2 : Nat) (Option.some Jvm.ClassFile.FieldType.int)) ∈ lw_all := lw_g (lw_at lw_m10 223 rfl) rfl
theorem q2457 : (Jvm.Cond.methodLink "JumpHall" (414 : Nat) ({ cls := "JumpHall$Hall", name := "pass", desc := "(I)I" } : Jvm.MethodName)) ∈ lw_all := lw_g (lw_at lw_m10 224 rfl) rfl
theorem q2482 : (Jvm.Cond.instanceMethod ({ cls := "JumpHall", name := "tell", desc := "(I)I" } : Jvm.MethodName)) ∈ lw_all := lw_g (lw_at lw_m11 9 rfl) rfl
theorem q2483 : (Jvm.Cond.selects "JumpHall" ({ cls := "JumpHall", name := "tell", desc := "(I)I" } : Jvm.MethodName) ({ cls := "JumpHall", name := "tell", desc := "(I)I" } : Jvm.MethodName)) ∈ lw_all := lw_g (lw_at lw_m11 10 rfl) rfl
theorem q2484 : (Jvm.Cond.code ({ cls := "JumpHall", name := "tell", desc := "(I)I" } : Jvm.MethodName) prog_1_method_41_code (5 : Nat) (Option.some Jvm.ClassFile.FieldType.int)) ∈ lw_all := lw_g (lw_at lw_m11 11 rfl) rfl
theorem q2485 : (Jvm.Cond.methodLink "JumpHall" (277 : Nat) ({ cls := "java/lang/StringBuilder", name := "setLength", desc := "(I)V" } : Jvm.MethodName)) ∈ lw_all := lw_g (lw_at lw_m11 12 rfl) rfl
theorem q2537 : (Jvm.Cond.methodLink "JumpHall" (281 : Nat) ({ cls := "JumpHall$Mat", name := "isBroken", desc := "(I)Z" } : Jvm.MethodName)) ∈ lw_all := lw_g (lw_at lw_m11 64 rfl) rfl
theorem q2538 : (Jvm.Cond.methodLink "JumpHall" (284 : Nat) ({ cls := "java/lang/StringBuilder", name := "append", desc := "(C)Ljava/lang/StringBuilder;" } : Jvm.MethodName)) ∈ lw_all := lw_g (lw_at lw_m11 65 rfl) rfl
theorem q2558 : (Jvm.Cond.methodLink "JumpHall" (288 : Nat) ({ cls := "java/util/ArrayList", name := "iterator", desc := "()Ljava/util/Iterator;" } : Jvm.MethodName)) ∈ lw_all := lw_g (lw_at lw_m11 85 rfl) rfl
theorem q2560 : (Jvm.Cond.methodLink "JumpHall" (292 : Nat) ({ cls := "java/util/Iterator", name := "hasNext", desc := "()Z" } : Jvm.MethodName)) ∈ lw_all := lw_g (lw_at lw_m11 87 rfl) rfl
theorem q2562 : (Jvm.Cond.methodLink "JumpHall" (298 : Nat) ({ cls := "java/util/Iterator", name := "next", desc := "()Ljava/lang/Object;" } : Jvm.MethodName)) ∈ lw_all := lw_g (lw_at lw_m11 89 rfl) rfl
theorem q2563 : (Jvm.Cond.methodLink "JumpHall" (308 : Nat) ({ cls := "java/lang/StringBuilder", name := "append", desc := "(I)Ljava/lang/StringBuilder;" } : Jvm.MethodName)) ∈ lw_all := lw_g (lw_at lw_m11 90 rfl) rfl
theorem q2566 : (Jvm.Cond.methodLink "JumpHall" (315 : Nat) ({ cls := "java/lang/StringBuilder", name := "append", desc := "(Ljava/lang/String;)Ljava/lang/StringBuilder;" } : Jvm.MethodName)) ∈ lw_all := lw_g (lw_at lw_m11 93 rfl) rfl
theorem q2567 : (Jvm.Cond.methodLink "JumpHall" (318 : Nat) ({ cls := "java/lang/StringBuilder", name := "length", desc := "()I" } : Jvm.MethodName)) ∈ lw_all := lw_g (lw_at lw_m11 94 rfl) rfl
theorem q2572 : (Jvm.Cond.instanceMethod ({ cls := "JumpHall", name := "character", desc := "(I)C" } : Jvm.MethodName)) ∈ lw_all := lw_g (lw_at lw_m11 99 rfl) rfl
theorem q2573 : (Jvm.Cond.selects "JumpHall" ({ cls := "JumpHall", name := "character", desc := "(I)C" } : Jvm.MethodName) ({ cls := "JumpHall", name := "character", desc := "(I)C" } : Jvm.MethodName)) ∈ lw_all := lw_g (lw_at lw_m11 100 rfl) rfl
theorem q2574 : (Jvm.Cond.code ({ cls := "JumpHall", name := "character", desc := "(I)C" } : Jvm.MethodName) prog_1_method_42_code (2 : Nat) (Option.some Jvm.ClassFile.FieldType.char)) ∈ lw_all := lw_g (lw_at lw_m11 101 rfl) rfl
theorem q2575 : (Jvm.Cond.methodLink "JumpHall" (321 : Nat) ({ cls := "java/lang/StringBuilder", name := "charAt", desc := "(I)C" } : Jvm.MethodName)) ∈ lw_all := lw_g (lw_at lw_m11 102 rfl) rfl
theorem q2603 : (Jvm.Cond.instanceMethod ({ cls := "JumpHall", name := "meanWeight", desc := "()F" } : Jvm.MethodName)) ∈ lw_all := lw_g (lw_at lw_m11 130 rfl) rfl
theorem q2604 : (Jvm.Cond.selects "JumpHall" ({ cls := "JumpHall", name := "meanWeight", desc := "()F" } : Jvm.MethodName) ({ cls := "JumpHall", name := "meanWeight", desc := "()F" } : Jvm.MethodName)) ∈ lw_all := lw_g (lw_at lw_m11 131 rfl) rfl
theorem q2605 : (Jvm.Cond.code ({ cls := "JumpHall", name := "meanWeight", desc := "()F" } : Jvm.MethodName) prog_1_method_43_code (2 : Nat) (Option.some Jvm.ClassFile.FieldType.float)) ∈ lw_all := lw_g (lw_at lw_m11 132 rfl) rfl
theorem q2606 : (Jvm.Cond.static ({ cls := "JumpHall", name := "lambda$meanWeight$15", desc := "(LJumpHall$Jumper;)Z" } : Jvm.MethodName)) ∈ lw_all := lw_g (lw_at lw_m11 133 rfl) rfl
theorem q2607 : (Jvm.Cond.code ({ cls := "JumpHall", name := "lambda$meanWeight$15", desc := "(LJumpHall$Jumper;)Z" } : Jvm.MethodName) prog_1_method_57_code (1 : Nat) (Option.some Jvm.ClassFile.FieldType.boolean)) ∈ lw_all := lw_g (lw_at lw_m11 134 rfl) rfl
theorem q2608 : (Jvm.Cond.methodLink "JumpHall" (411 : Nat) ({ cls := "JumpHall$Jumper", name := "isGone", desc := "()Z" } : Jvm.MethodName)) ∈ lw_all := lw_g (lw_at lw_m11 135 rfl) rfl
theorem q2609 : (Jvm.Cond.methodLink "JumpHall" (328 : Nat) ({ cls := "JumpHall", name := "checkCount", desc := "(I)V" } : Jvm.MethodName)) ∈ lw_all := lw_g (lw_at lw_m11 136 rfl) rfl
theorem q2610 : (Jvm.Cond.static ({ cls := "JumpHall", name := "checkCount", desc := "(I)V" } : Jvm.MethodName)) ∈ lw_all := lw_g (lw_at lw_m11 137 rfl) rfl
theorem q2611 : (Jvm.Cond.code ({ cls := "JumpHall", name := "checkCount", desc := "(I)V" } : Jvm.MethodName) prog_1_method_7_code (1 : Nat) (Option.none : Option Jvm.ClassFile.FieldType)) ∈ lw_all := lw_g (lw_at lw_m11 138 rfl) rfl
theorem q2612 : (Jvm.Cond.classLink "JumpHall" (22 : Nat) "java/lang/ArithmeticException") ∈ lw_all := lw_g (lw_at lw_m11 139 rfl) rfl
theorem q2613 : (Jvm.Cond.methodLink "JumpHall" (24 : Nat) ({ cls := "java/lang/ArithmeticException", name := "<init>", desc := "()V" } : Jvm.MethodName)) ∈ lw_all := lw_g (lw_at lw_m11 140 rfl) rfl
theorem q2617 : (Jvm.Cond.static ({ cls := "JumpHall", name := "lambda$meanWeight$16", desc := "(LJumpHall$Jumper;)Z" } : Jvm.MethodName)) ∈ lw_all := lw_g (lw_at lw_m11 144 rfl) rfl
theorem q2618 : (Jvm.Cond.code ({ cls := "JumpHall", name := "lambda$meanWeight$16", desc := "(LJumpHall$Jumper;)Z" } : Jvm.MethodName) prog_1_method_56_code (1 : Nat) (Option.some Jvm.ClassFile.FieldType.boolean)) ∈ lw_all := lw_g (lw_at lw_m11 145 rfl) rfl
theorem q2619 : (Jvm.Cond.methodLink "JumpHall" (332 : Nat) ({ cls := "JumpHall$Hall", name := "weightOf", desc := "(LJumpHall$Test;)I" } : Jvm.MethodName)) ∈ lw_all := lw_g (lw_at lw_m11 146 rfl) rfl
theorem q2624 : (Jvm.Cond.instanceMethod ({ cls := "JumpHall", name := "brokenShare", desc := "()D" } : Jvm.MethodName)) ∈ lw_all := lw_g (lw_at lw_m11 151 rfl) rfl
theorem q2625 : (Jvm.Cond.selects "JumpHall" ({ cls := "JumpHall", name := "brokenShare", desc := "()D" } : Jvm.MethodName) ({ cls := "JumpHall", name := "brokenShare", desc := "()D" } : Jvm.MethodName)) ∈ lw_all := lw_g (lw_at lw_m11 152 rfl) rfl
theorem q2626 : (Jvm.Cond.code ({ cls := "JumpHall", name := "brokenShare", desc := "()D" } : Jvm.MethodName) prog_1_method_44_code (2 : Nat) (Option.some Jvm.ClassFile.FieldType.double)) ∈ lw_all := lw_g (lw_at lw_m11 153 rfl) rfl
theorem q2627 : (Jvm.Cond.methodLink "JumpHall" (335 : Nat) ({ cls := "JumpHall$Hall", name := "brokenSprings", desc := "()I" } : Jvm.MethodName)) ∈ lw_all := lw_g (lw_at lw_m11 154 rfl) rfl
theorem q2635 : (Jvm.Cond.instanceMethod ({ cls := "JumpHall", name := "account", desc := "(I)I" } : Jvm.MethodName)) ∈ lw_all := lw_g (lw_at lw_m11 162 rfl) rfl
theorem q2636 : (Jvm.Cond.selects "JumpHall" ({ cls := "JumpHall", name := "account", desc := "(I)I" } : Jvm.MethodName) ({ cls := "JumpHall", name := "account", desc := "(I)I" } : Jvm.MethodName)) ∈ lw_all := lw_g (lw_at lw_m11 163 rfl) rfl
theorem q2637 : (Jvm.Cond.code ({ cls := "JumpHall", name := "account", desc := "(I)I" } : Jvm.MethodName) prog_1_method_45_code (2 : Nat) (Option.some Jvm.ClassFile.FieldType.int)) ∈ lw_all := lw_g (lw_at lw_m11 164 rfl) rfl
theorem q2638 : (Jvm.Cond.methodLink "JumpHall" (338 : Nat) ({ cls := "JumpHall$Hall", name := "openMats", desc := "()I" } : Jvm.MethodName)) ∈ lw_all := lw_g (lw_at lw_m11 165 rfl) rfl
theorem q2642 : (Jvm.Cond.static ({ cls := "JumpHall", name := "lambda$account$17", desc := "(ILJumpHall$Jumper;)Z" } : Jvm.MethodName)) ∈ lw_all := lw_g (lw_at lw_m11 169 rfl) rfl
theorem q2643 : (Jvm.Cond.code ({ cls := "JumpHall", name := "lambda$account$17", desc := "(ILJumpHall$Jumper;)Z" } : Jvm.MethodName) prog_1_method_55_code (2 : Nat) (Option.some Jvm.ClassFile.FieldType.boolean)) ∈ lw_all := lw_g (lw_at lw_m11 170 rfl) rfl
theorem q2644 : (Jvm.Cond.static ({ cls := "JumpHall", name := "lambda$account$18", desc := "(LJumpHall$Jumper;)Z" } : Jvm.MethodName)) ∈ lw_all := lw_g (lw_at lw_m11 171 rfl) rfl
theorem q2645 : (Jvm.Cond.code ({ cls := "JumpHall", name := "lambda$account$18", desc := "(LJumpHall$Jumper;)Z" } : Jvm.MethodName) prog_1_method_54_code (1 : Nat) (Option.some Jvm.ClassFile.FieldType.boolean)) ∈ lw_all := lw_g (lw_at lw_m11 172 rfl) rfl
theorem q2646 : (Jvm.Cond.methodLink "JumpHall" (408 : Nat) ({ cls := "JumpHall$Jumper", name := "hasSocks", desc := "()Z" } : Jvm.MethodName)) ∈ lw_all := lw_g (lw_at lw_m11 173 rfl) rfl
theorem q2647 : (Jvm.Cond.methodLink "JumpHall" (343 : Nat) ({ cls := "JumpHall$Shelf", name := "ofSize", desc := "(I)I" } : Jvm.MethodName)) ∈ lw_all := lw_g (lw_at lw_m11 174 rfl) rfl
theorem q2648 : (Jvm.Cond.methodLink "JumpHall" (352 : Nat) ({ cls := "JumpHall$Hall", name := "partiesIn", desc := "(I)I" } : Jvm.MethodName)) ∈ lw_all := lw_g (lw_at lw_m11 175 rfl) rfl
theorem q2654 : (Jvm.Cond.instanceMethod ({ cls := "JumpHall", name := "append", desc := "(C)I" } : Jvm.MethodName)) ∈ lw_all := lw_g (lw_at lw_m11 181 rfl) rfl
theorem q2655 : (Jvm.Cond.selects "JumpHall" ({ cls := "JumpHall", name := "append", desc := "(C)I" } : Jvm.MethodName) ({ cls := "JumpHall", name := "append", desc := "(C)I" } : Jvm.MethodName)) ∈ lw_all := lw_g (lw_at lw_m11 182 rfl) rfl
theorem q2656 : (Jvm.Cond.code ({ cls := "JumpHall", name := "append", desc := "(C)I" } : Jvm.MethodName) prog_1_method_46_code (2 : Nat) (Option.some Jvm.ClassFile.FieldType.int)) ∈ lw_all := lw_g (lw_at lw_m11 183 rfl) rfl
theorem q2657 : (Jvm.Cond.methodLink "JumpHall" (365 : Nat) ({ cls := "JumpHall", name := "checkState", desc := "(Z)V" } : Jvm.MethodName)) ∈ lw_all := lw_g (lw_at lw_m11 184 rfl) rfl
theorem q2658 : (Jvm.Cond.static ({ cls := "JumpHall", name := "checkState", desc := "(Z)V" } : Jvm.MethodName)) ∈ lw_all := lw_g (lw_at lw_m11 185 rfl) rfl
theorem q2659 : (Jvm.Cond.code ({ cls := "JumpHall", name := "checkState", desc := "(Z)V" } : Jvm.MethodName) prog_1_method_5_code (1 : Nat) (Option.none : Option Jvm.ClassFile.FieldType)) ∈ lw_all := lw_g (lw_at lw_m11 186 rfl) rfl
theorem q2660 : (Jvm.Cond.classLink "JumpHall" (16 : Nat) "java/lang/IllegalStateException") ∈ lw_all := lw_g (lw_at lw_m11 187 rfl) rfl
theorem q2661 : (Jvm.Cond.methodLink "JumpHall" (18 : Nat) ({ cls := "java/lang/IllegalStateException", name := "<init>", desc := "()V" } : Jvm.MethodName)) ∈ lw_all := lw_g (lw_at lw_m11 188 rfl) rfl
theorem q2669 : (Jvm.Cond.instanceMethod ({ cls := "JumpHall", name := "read", desc := "()I" } : Jvm.MethodName)) ∈ lw_all := lw_g (lw_at lw_m11 196 rfl) rfl
theorem q2670 : (Jvm.Cond.selects "JumpHall" ({ cls := "JumpHall", name := "read", desc := "()I" } : Jvm.MethodName) ({ cls := "JumpHall", name := "read", desc := "()I" } : Jvm.MethodName)) ∈ lw_all := lw_g (lw_at lw_m11 197 rfl) rfl
theorem q2671 : (Jvm.Cond.codeWith ({ cls := "JumpHall", name := "read", desc := "()I" } : Jvm.MethodName) prog_1_method_47_code (4 : Nat) (Option.some Jvm.ClassFile.FieldType.int) [((16 : Nat), (31 : Nat), (38 : Nat), (379 : Nat)), ((16 : Nat), (31 : Nat), (52 : Nat), (0 : Nat)), ((38 : Nat), (53 : Nat), (52 : Nat), (0 : Nat))]) ∈ lw_all := lw_g (lw_at lw_m11 198 rfl) rfl
theorem q2672 : (Jvm.Cond.classLink "JumpHall" (379 : Nat) "JumpHall$BadText") ∈ lw_all := lw_g (lw_at lw_m11 199 rfl) rfl
theorem q2673 : (Jvm.Cond.classLink "JumpHall" (368 : Nat) "JumpHall$Parser") ∈ lw_all := lw_g (lw_at lw_m11 200 rfl) rfl
theorem q2675 : (Jvm.Cond.methodLink "JumpHall" (370 : Nat) ({ cls := "JumpHall$Parser", name := "<init>", desc := "([CI)V" } : Jvm.MethodName)) ∈ lw_all := lw_g (lw_at lw_m11 202 rfl) rfl
theorem q2694 : (Jvm.Cond.methodLink "JumpHall" (373 : Nat) ({ cls := "JumpHall$Parser", name := "all", desc := "()V" } : Jvm.MethodName)) ∈ lw_all := lw_g (lw_at lw_m11 221 rfl) rfl
theorem q2850 : (Jvm.Cond.fieldLinkNest "JumpHall" (385 : Nat) "JumpHall$BadText" "position" "I" "JumpHall") ∈ lw_tbl := lw_at lw_m12 137 rfl
theorem q2883 : (Jvm.Cond.static ({ cls := "JumpHall", name := "lambda$read$19", desc := "(LJumpHall$Parser;LJumpHall$Hall;)I" } : Jvm.MethodName)) ∈ lw_all := lw_g (lw_at lw_m12 170 rfl) rfl
theorem q2884 : (Jvm.Cond.code ({ cls := "JumpHall", name := "lambda$read$19", desc := "(LJumpHall$Parser;LJumpHall$Hall;)I" } : Jvm.MethodName) prog_1_method_53_code (2 : Nat) (Option.some Jvm.ClassFile.FieldType.int)) ∈ lw_all := lw_g (lw_at lw_m12 171 rfl) rfl
theorem q2885 : (Jvm.Cond.methodLink "JumpHall" (406 : Nat) ({ cls := "JumpHall$Parser", name := "does", desc := "(LJumpHall$Hall;)I" } : Jvm.MethodName)) ∈ lw_all := lw_g (lw_at lw_m12 172 rfl) rfl
theorem q2912 : (Jvm.Cond.static ({ cls := "JumpHall", name := "need", desc := "(Z)V" } : Jvm.MethodName)) ∈ lw_all := lw_g (lw_at lw_m12 199 rfl) rfl
theorem q2913 : (Jvm.Cond.code ({ cls := "JumpHall", name := "need", desc := "(Z)V" } : Jvm.MethodName) prog_1_method_9_code (1 : Nat) (Option.none : Option Jvm.ClassFile.FieldType)) ∈ lw_all := lw_g (lw_at lw_m12 200 rfl) rfl
theorem q2914 : (Jvm.Cond.classLink "JumpHall" (30 : Nat) "JumpHall$NotThere") ∈ lw_all := lw_g (lw_at lw_m12 201 rfl) rfl
theorem q2923 : (Jvm.Cond.methodLink "JumpHall" (32 : Nat) ({ cls := "JumpHall$NotThere", name := "<init>", desc := "()V" } : Jvm.MethodName)) ∈ lw_all := lw_g (lw_at lw_m12 210 rfl) rfl
theorem q2969 : (Jvm.Cond.instanceMethod ({ cls := "JumpHall", name := "errorPosition", desc := "()I" } : Jvm.MethodName)) ∈ lw_all := lw_g (lw_at lw_m13 16 rfl) rfl
theorem q2970 : (Jvm.Cond.selects "JumpHall" ({ cls := "JumpHall", name := "errorPosition", desc := "()I" } : Jvm.MethodName) ({ cls := "JumpHall", name := "errorPosition", desc := "()I" } : Jvm.MethodName)) ∈ lw_all := lw_g (lw_at lw_m13 17 rfl) rfl
theorem q2971 : (Jvm.Cond.code ({ cls := "JumpHall", name := "errorPosition", desc := "()I" } : Jvm.MethodName) prog_1_method_48_code (1 : Nat) (Option.some Jvm.ClassFile.FieldType.int)) ∈ lw_all := lw_g (lw_at lw_m13 18 rfl) rfl
theorem q2976 : (Jvm.Cond.instanceMethod ({ cls := "JumpHall", name := "reason", desc := "(IZ)I" } : Jvm.MethodName)) ∈ lw_all := lw_g (lw_at lw_m13 23 rfl) rfl
theorem q2977 : (Jvm.Cond.selects "JumpHall" ({ cls := "JumpHall", name := "reason", desc := "(IZ)I" } : Jvm.MethodName) ({ cls := "JumpHall", name := "reason", desc := "(IZ)I" } : Jvm.MethodName)) ∈ lw_all := lw_g (lw_at lw_m13 24 rfl) rfl
theorem q2978 : (Jvm.Cond.code ({ cls := "JumpHall", name := "reason", desc := "(IZ)I" } : Jvm.MethodName) prog_1_method_49_code (4 : Nat) (Option.some Jvm.ClassFile.FieldType.int)) ∈ lw_all := lw_g (lw_at lw_m13 25 rfl) rfl
theorem q2979 : (Jvm.Cond.methodLink "JumpHall" (388 : Nat) ({ cls := "JumpHall$Hindrance", name := "at", desc := "(I)LJumpHall$Hindrance;" } : Jvm.MethodName)) ∈ lw_all := lw_g (lw_at lw_m13 26 rfl) rfl
theorem q3005 : (Jvm.Cond.instanceMethod ({ cls := "JumpHall", name := "undo", desc := "()I" } : Jvm.MethodName)) ∈ lw_all := lw_g (lw_at lw_m13 52 rfl) rfl
theorem q3006 : (Jvm.Cond.selects "JumpHall" ({ cls := "JumpHall", name := "undo", desc := "()I" } : Jvm.MethodName) ({ cls := "JumpHall", name := "undo", desc := "()I" } : Jvm.MethodName)) ∈ lw_all := lw_g (lw_at lw_m13 53 rfl) rfl
theorem q3007 : (Jvm.Cond.code ({ cls := "JumpHall", name := "undo", desc := "()I" } : Jvm.MethodName) prog_1_method_50_code (1 : Nat) (Option.some Jvm.ClassFile.FieldType.int)) ∈ lw_all := lw_g (lw_at lw_m13 54 rfl) rfl
theorem q3012 : (Jvm.Cond.instanceMethod ({ cls := "JumpHall", name := "restore", desc := "()I" } : Jvm.MethodName)) ∈ lw_all := lw_g (lw_at lw_m13 59 rfl) rfl
theorem q3013 : (Jvm.Cond.selects "JumpHall" ({ cls := "JumpHall", name := "restore", desc := "()I" } : Jvm.MethodName) ({ cls := "JumpHall", name := "restore", desc := "()I" } : Jvm.MethodName)) ∈ lw_all := lw_g (lw_at lw_m13 60 rfl) rfl
theorem q3014 : (Jvm.Cond.code ({ cls := "JumpHall", name := "restore", desc := "()I" } : Jvm.MethodName) prog_1_method_52_code (1 : Nat) (Option.some Jvm.ClassFile.FieldType.int)) ∈ lw_all := lw_g (lw_at lw_m13 61 rfl) rfl
theorem q3015 : (Jvm.Cond.methodLink "JumpHall" (403 : Nat) ({ cls := "java/util/ArrayList", name := "clear", desc := "()V" } : Jvm.MethodName)) ∈ lw_all := lw_g (lw_at lw_m13 62 rfl) rfl
theorem q3502 : (Jvm.Cond.castable "JumpHall" "java/lang/Object") ∈ lw_tbl := lw_at lw_m15 69 rfl
