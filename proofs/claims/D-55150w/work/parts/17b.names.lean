set_option maxRecDepth 100000
/-! JumpHall$Hall -/
def RX2 : String := "JumpHall$Hall"
abbrev cX2_init : ByteArray := prog_5_method_1_code
def yX2_init : MethodName := ⟨RX2, "<init>", "()V"⟩
def dkwX2_init_3 : List UInt8 := [181, 0, 34, 177]
abbrev dktX2_init_3 : List UInt8 := dkwX2_init_3 ++ []
def dkwX2_init_2 : List UInt8 := [181, 0, 24, 42, 187, 0, 27, 89, 183, 0, 29, 181, 0, 30, 42, 187, 0, 27, 89, 183, 0, 29]
abbrev dktX2_init_2 : List UInt8 := dkwX2_init_2 ++ dktX2_init_3
def dkwX2_init_1 : List UInt8 := [181, 0, 18, 42, 187, 0, 9, 89, 183, 0, 11, 181, 0, 21, 42, 187, 0, 9, 89, 183, 0, 11]
abbrev dktX2_init_1 : List UInt8 := dkwX2_init_1 ++ dktX2_init_2
def dkwX2_init_0 : List UInt8 := [42, 183, 0, 3, 42, 187, 0, 9, 89, 183, 0, 11, 181, 0, 12, 42, 187, 0, 9, 89, 183, 0, 11]
abbrev dktX2_init_0 : List UInt8 := dkwX2_init_0 ++ dktX2_init_1
theorem dksX2_init_0 : cX2_init.data.toList.drop 0 = dktX2_init_0 := by decide +kernel
theorem dksX2_init_1 : cX2_init.data.toList.drop 23 = dktX2_init_1 := dk_seg dksX2_init_0 23 rfl rfl
theorem dksX2_init_2 : cX2_init.data.toList.drop 45 = dktX2_init_2 := dk_seg dksX2_init_1 22 rfl rfl
theorem dksX2_init_3 : cX2_init.data.toList.drop 67 = dktX2_init_3 := dk_seg dksX2_init_2 22 rfl rfl
theorem dX2_init_0 : decode cX2_init 0 = .ok (.aload_n 0, 1) := dk_42 (dk_at dksX2_init_0 0 rfl rfl)
theorem dX2_init_1 : decode cX2_init 1 = .ok (.invokespecial 3, 3) := dk_183 0 3 (dk_at dksX2_init_0 1 rfl rfl)
theorem dX2_init_4 : decode cX2_init 4 = .ok (.aload_n 0, 1) := dk_42 (dk_at dksX2_init_0 4 rfl rfl)
theorem dX2_init_5 : decode cX2_init 5 = .ok (.new 9, 3) := dk_187 0 9 (dk_at dksX2_init_0 5 rfl rfl)
theorem dX2_init_8 : decode cX2_init 8 = .ok (.dup, 1) := dk_89 (dk_at dksX2_init_0 8 rfl rfl)
theorem dX2_init_9 : decode cX2_init 9 = .ok (.invokespecial 11, 3) := dk_183 0 11 (dk_at dksX2_init_0 9 rfl rfl)
theorem dX2_init_12 : decode cX2_init 12 = .ok (.putfield 12, 3) := dk_181 0 12 (dk_at dksX2_init_0 12 rfl rfl)
theorem dX2_init_15 : decode cX2_init 15 = .ok (.aload_n 0, 1) := dk_42 (dk_at dksX2_init_0 15 rfl rfl)
theorem dX2_init_16 : decode cX2_init 16 = .ok (.new 9, 3) := dk_187 0 9 (dk_at dksX2_init_0 16 rfl rfl)
theorem dX2_init_19 : decode cX2_init 19 = .ok (.dup, 1) := dk_89 (dk_at dksX2_init_0 19 rfl rfl)
theorem dX2_init_20 : decode cX2_init 20 = .ok (.invokespecial 11, 3) := dk_183 0 11 (dk_at dksX2_init_0 20 rfl rfl)
theorem dX2_init_23 : decode cX2_init 23 = .ok (.putfield 18, 3) := dk_181 0 18 (dk_at dksX2_init_1 0 rfl rfl)
theorem dX2_init_26 : decode cX2_init 26 = .ok (.aload_n 0, 1) := dk_42 (dk_at dksX2_init_1 3 rfl rfl)
theorem dX2_init_27 : decode cX2_init 27 = .ok (.new 9, 3) := dk_187 0 9 (dk_at dksX2_init_1 4 rfl rfl)
theorem dX2_init_30 : decode cX2_init 30 = .ok (.dup, 1) := dk_89 (dk_at dksX2_init_1 7 rfl rfl)
theorem dX2_init_31 : decode cX2_init 31 = .ok (.invokespecial 11, 3) := dk_183 0 11 (dk_at dksX2_init_1 8 rfl rfl)
theorem dX2_init_34 : decode cX2_init 34 = .ok (.putfield 21, 3) := dk_181 0 21 (dk_at dksX2_init_1 11 rfl rfl)
theorem dX2_init_37 : decode cX2_init 37 = .ok (.aload_n 0, 1) := dk_42 (dk_at dksX2_init_1 14 rfl rfl)
theorem dX2_init_38 : decode cX2_init 38 = .ok (.new 9, 3) := dk_187 0 9 (dk_at dksX2_init_1 15 rfl rfl)
theorem dX2_init_41 : decode cX2_init 41 = .ok (.dup, 1) := dk_89 (dk_at dksX2_init_1 18 rfl rfl)
theorem dX2_init_42 : decode cX2_init 42 = .ok (.invokespecial 11, 3) := dk_183 0 11 (dk_at dksX2_init_1 19 rfl rfl)
theorem dX2_init_45 : decode cX2_init 45 = .ok (.putfield 24, 3) := dk_181 0 24 (dk_at dksX2_init_2 0 rfl rfl)
theorem dX2_init_48 : decode cX2_init 48 = .ok (.aload_n 0, 1) := dk_42 (dk_at dksX2_init_2 3 rfl rfl)
theorem dX2_init_49 : decode cX2_init 49 = .ok (.new 27, 3) := dk_187 0 27 (dk_at dksX2_init_2 4 rfl rfl)
theorem dX2_init_52 : decode cX2_init 52 = .ok (.dup, 1) := dk_89 (dk_at dksX2_init_2 7 rfl rfl)
theorem dX2_init_53 : decode cX2_init 53 = .ok (.invokespecial 29, 3) := dk_183 0 29 (dk_at dksX2_init_2 8 rfl rfl)
theorem dX2_init_56 : decode cX2_init 56 = .ok (.putfield 30, 3) := dk_181 0 30 (dk_at dksX2_init_2 11 rfl rfl)
theorem dX2_init_59 : decode cX2_init 59 = .ok (.aload_n 0, 1) := dk_42 (dk_at dksX2_init_2 14 rfl rfl)
theorem dX2_init_60 : decode cX2_init 60 = .ok (.new 27, 3) := dk_187 0 27 (dk_at dksX2_init_2 15 rfl rfl)
theorem dX2_init_63 : decode cX2_init 63 = .ok (.dup, 1) := dk_89 (dk_at dksX2_init_2 18 rfl rfl)
theorem dX2_init_64 : decode cX2_init 64 = .ok (.invokespecial 29, 3) := dk_183 0 29 (dk_at dksX2_init_2 19 rfl rfl)
theorem dX2_init_67 : decode cX2_init 67 = .ok (.putfield 34, 3) := dk_181 0 34 (dk_at dksX2_init_3 0 rfl rfl)
theorem dX2_init_70 : decode cX2_init 70 = .ok (.return_, 1) := dk_177 (dk_at dksX2_init_3 3 rfl rfl)
abbrev cX2_copy : ByteArray := prog_5_method_2_code
def yX2_copy : MethodName := ⟨RX2, "copy", "()LJumpHall$Hall;"⟩
def dkwX2_copy_8 : List UInt8 := [180, 0, 86, 181, 0, 86, 43, 42, 180, 0, 89, 181, 0, 89, 43, 42, 180, 0, 92, 181, 0, 92, 43, 176]
abbrev dktX2_copy_8 : List UInt8 := dkwX2_copy_8 ++ []
def dkwX2_copy_7 : List UInt8 := [182, 0, 76, 181, 0, 34, 43, 42, 180, 0, 79, 181, 0, 79, 43, 42, 180, 0, 83, 181, 0, 83, 43, 42]
abbrev dktX2_copy_7 : List UInt8 := dkwX2_copy_7 ++ dktX2_copy_8
def dkwX2_copy_6 : List UInt8 := [180, 0, 24, 182, 0, 72, 87, 43, 42, 180, 0, 30, 182, 0, 76, 181, 0, 30, 43, 42, 180, 0, 34]
abbrev dktX2_copy_6 : List UInt8 := dkwX2_copy_6 ++ dktX2_copy_7
def dkwX2_copy_5 : List UInt8 := [192, 0, 67, 78, 43, 180, 0, 21, 45, 182, 0, 69, 182, 0, 58, 87, 167, 255, 225, 43, 180, 0, 24, 42]
abbrev dktX2_copy_5 : List UInt8 := dkwX2_copy_5 ++ dktX2_copy_6
def dkwX2_copy_4 : List UInt8 := [42, 180, 0, 21, 182, 0, 38, 77, 44, 185, 0, 42, 1, 0, 153, 0, 28, 44, 185, 0, 48, 1, 0]
abbrev dktX2_copy_4 : List UInt8 := dkwX2_copy_4 ++ dktX2_copy_5
def dkwX2_copy_3 : List UInt8 := [185, 0, 48, 1, 0, 192, 0, 62, 78, 43, 180, 0, 18, 45, 182, 0, 64, 182, 0, 58, 87, 167, 255, 225]
abbrev dktX2_copy_3 : List UInt8 := dkwX2_copy_3 ++ dktX2_copy_4
def dkwX2_copy_2 : List UInt8 := [87, 167, 255, 225, 42, 180, 0, 18, 182, 0, 38, 77, 44, 185, 0, 42, 1, 0, 153, 0, 28, 44]
abbrev dktX2_copy_2 : List UInt8 := dkwX2_copy_2 ++ dktX2_copy_3
def dkwX2_copy_1 : List UInt8 := [153, 0, 28, 44, 185, 0, 48, 1, 0, 192, 0, 52, 78, 43, 180, 0, 12, 45, 182, 0, 54, 182, 0, 58]
abbrev dktX2_copy_1 : List UInt8 := dkwX2_copy_1 ++ dktX2_copy_2
def dkwX2_copy_0 : List UInt8 := [187, 0, 13, 89, 183, 0, 37, 76, 42, 180, 0, 12, 182, 0, 38, 77, 44, 185, 0, 42, 1, 0]
abbrev dktX2_copy_0 : List UInt8 := dkwX2_copy_0 ++ dktX2_copy_1
theorem dksX2_copy_0 : cX2_copy.data.toList.drop 0 = dktX2_copy_0 := by decide +kernel
theorem dksX2_copy_1 : cX2_copy.data.toList.drop 22 = dktX2_copy_1 := dk_seg dksX2_copy_0 22 rfl rfl
theorem dksX2_copy_2 : cX2_copy.data.toList.drop 46 = dktX2_copy_2 := dk_seg dksX2_copy_1 24 rfl rfl
theorem dksX2_copy_3 : cX2_copy.data.toList.drop 68 = dktX2_copy_3 := dk_seg dksX2_copy_2 22 rfl rfl
theorem dksX2_copy_4 : cX2_copy.data.toList.drop 92 = dktX2_copy_4 := dk_seg dksX2_copy_3 24 rfl rfl
theorem dksX2_copy_5 : cX2_copy.data.toList.drop 115 = dktX2_copy_5 := dk_seg dksX2_copy_4 23 rfl rfl
theorem dksX2_copy_6 : cX2_copy.data.toList.drop 139 = dktX2_copy_6 := dk_seg dksX2_copy_5 24 rfl rfl
theorem dksX2_copy_7 : cX2_copy.data.toList.drop 162 = dktX2_copy_7 := dk_seg dksX2_copy_6 23 rfl rfl
theorem dksX2_copy_8 : cX2_copy.data.toList.drop 186 = dktX2_copy_8 := dk_seg dksX2_copy_7 24 rfl rfl
theorem dX2_copy_0 : decode cX2_copy 0 = .ok (.new 13, 3) := dk_187 0 13 (dk_at dksX2_copy_0 0 rfl rfl)
theorem dX2_copy_3 : decode cX2_copy 3 = .ok (.dup, 1) := dk_89 (dk_at dksX2_copy_0 3 rfl rfl)
theorem dX2_copy_4 : decode cX2_copy 4 = .ok (.invokespecial 37, 3) := dk_183 0 37 (dk_at dksX2_copy_0 4 rfl rfl)
theorem dX2_copy_7 : decode cX2_copy 7 = .ok (.astore_n 1, 1) := dk_76 (dk_at dksX2_copy_0 7 rfl rfl)
theorem dX2_copy_8 : decode cX2_copy 8 = .ok (.aload_n 0, 1) := dk_42 (dk_at dksX2_copy_0 8 rfl rfl)
theorem dX2_copy_9 : decode cX2_copy 9 = .ok (.getfield 12, 3) := dk_180 0 12 (dk_at dksX2_copy_0 9 rfl rfl)
theorem dX2_copy_12 : decode cX2_copy 12 = .ok (.invokevirtual 38, 3) := dk_182 0 38 (dk_at dksX2_copy_0 12 rfl rfl)
theorem dX2_copy_15 : decode cX2_copy 15 = .ok (.astore_n 2, 1) := dk_77 (dk_at dksX2_copy_0 15 rfl rfl)
theorem dX2_copy_16 : decode cX2_copy 16 = .ok (.aload_n 2, 1) := dk_44 (dk_at dksX2_copy_0 16 rfl rfl)
theorem dX2_copy_17 : decode cX2_copy 17 = .ok (.invokeinterface 42 1, 5) := by decide +kernel
theorem dX2_copy_22 : decode cX2_copy 22 = .ok (.ifCond .eq 28, 3) := dk_153 0 28 (dk_at dksX2_copy_1 0 rfl rfl)
theorem dX2_copy_25 : decode cX2_copy 25 = .ok (.aload_n 2, 1) := dk_44 (dk_at dksX2_copy_1 3 rfl rfl)
theorem dX2_copy_26 : decode cX2_copy 26 = .ok (.invokeinterface 48 1, 5) := by decide +kernel
theorem dX2_copy_31 : decode cX2_copy 31 = .ok (.checkcast 52, 3) := dk_192 0 52 (dk_at dksX2_copy_1 9 rfl rfl)
theorem dX2_copy_34 : decode cX2_copy 34 = .ok (.astore_n 3, 1) := dk_78 (dk_at dksX2_copy_1 12 rfl rfl)
theorem dX2_copy_35 : decode cX2_copy 35 = .ok (.aload_n 1, 1) := dk_43 (dk_at dksX2_copy_1 13 rfl rfl)
theorem dX2_copy_36 : decode cX2_copy 36 = .ok (.getfield 12, 3) := dk_180 0 12 (dk_at dksX2_copy_1 14 rfl rfl)
theorem dX2_copy_39 : decode cX2_copy 39 = .ok (.aload_n 3, 1) := dk_45 (dk_at dksX2_copy_1 17 rfl rfl)
theorem dX2_copy_40 : decode cX2_copy 40 = .ok (.invokevirtual 54, 3) := dk_182 0 54 (dk_at dksX2_copy_1 18 rfl rfl)
theorem dX2_copy_43 : decode cX2_copy 43 = .ok (.invokevirtual 58, 3) := dk_182 0 58 (dk_at dksX2_copy_1 21 rfl rfl)
theorem dX2_copy_46 : decode cX2_copy 46 = .ok (.pop, 1) := dk_87 (dk_at dksX2_copy_2 0 rfl rfl)
theorem dX2_copy_47 : decode cX2_copy 47 = .ok (.goto (-31), 3) := dk_167 255 225 (dk_at dksX2_copy_2 1 rfl rfl)
theorem dX2_copy_50 : decode cX2_copy 50 = .ok (.aload_n 0, 1) := dk_42 (dk_at dksX2_copy_2 4 rfl rfl)
theorem dX2_copy_51 : decode cX2_copy 51 = .ok (.getfield 18, 3) := dk_180 0 18 (dk_at dksX2_copy_2 5 rfl rfl)
theorem dX2_copy_54 : decode cX2_copy 54 = .ok (.invokevirtual 38, 3) := dk_182 0 38 (dk_at dksX2_copy_2 8 rfl rfl)
theorem dX2_copy_57 : decode cX2_copy 57 = .ok (.astore_n 2, 1) := dk_77 (dk_at dksX2_copy_2 11 rfl rfl)
theorem dX2_copy_58 : decode cX2_copy 58 = .ok (.aload_n 2, 1) := dk_44 (dk_at dksX2_copy_2 12 rfl rfl)
theorem dX2_copy_59 : decode cX2_copy 59 = .ok (.invokeinterface 42 1, 5) := by decide +kernel
theorem dX2_copy_64 : decode cX2_copy 64 = .ok (.ifCond .eq 28, 3) := dk_153 0 28 (dk_at dksX2_copy_2 18 rfl rfl)
theorem dX2_copy_67 : decode cX2_copy 67 = .ok (.aload_n 2, 1) := dk_44 (dk_at dksX2_copy_2 21 rfl rfl)
theorem dX2_copy_68 : decode cX2_copy 68 = .ok (.invokeinterface 48 1, 5) := by decide +kernel
theorem dX2_copy_73 : decode cX2_copy 73 = .ok (.checkcast 62, 3) := dk_192 0 62 (dk_at dksX2_copy_3 5 rfl rfl)
theorem dX2_copy_76 : decode cX2_copy 76 = .ok (.astore_n 3, 1) := dk_78 (dk_at dksX2_copy_3 8 rfl rfl)
theorem dX2_copy_77 : decode cX2_copy 77 = .ok (.aload_n 1, 1) := dk_43 (dk_at dksX2_copy_3 9 rfl rfl)
theorem dX2_copy_78 : decode cX2_copy 78 = .ok (.getfield 18, 3) := dk_180 0 18 (dk_at dksX2_copy_3 10 rfl rfl)
theorem dX2_copy_81 : decode cX2_copy 81 = .ok (.aload_n 3, 1) := dk_45 (dk_at dksX2_copy_3 13 rfl rfl)
theorem dX2_copy_82 : decode cX2_copy 82 = .ok (.invokevirtual 64, 3) := dk_182 0 64 (dk_at dksX2_copy_3 14 rfl rfl)
theorem dX2_copy_85 : decode cX2_copy 85 = .ok (.invokevirtual 58, 3) := dk_182 0 58 (dk_at dksX2_copy_3 17 rfl rfl)
theorem dX2_copy_88 : decode cX2_copy 88 = .ok (.pop, 1) := dk_87 (dk_at dksX2_copy_3 20 rfl rfl)
theorem dX2_copy_89 : decode cX2_copy 89 = .ok (.goto (-31), 3) := dk_167 255 225 (dk_at dksX2_copy_3 21 rfl rfl)
theorem dX2_copy_92 : decode cX2_copy 92 = .ok (.aload_n 0, 1) := dk_42 (dk_at dksX2_copy_4 0 rfl rfl)
theorem dX2_copy_93 : decode cX2_copy 93 = .ok (.getfield 21, 3) := dk_180 0 21 (dk_at dksX2_copy_4 1 rfl rfl)
theorem dX2_copy_96 : decode cX2_copy 96 = .ok (.invokevirtual 38, 3) := dk_182 0 38 (dk_at dksX2_copy_4 4 rfl rfl)
theorem dX2_copy_99 : decode cX2_copy 99 = .ok (.astore_n 2, 1) := dk_77 (dk_at dksX2_copy_4 7 rfl rfl)
theorem dX2_copy_100 : decode cX2_copy 100 = .ok (.aload_n 2, 1) := dk_44 (dk_at dksX2_copy_4 8 rfl rfl)
theorem dX2_copy_101 : decode cX2_copy 101 = .ok (.invokeinterface 42 1, 5) := by decide +kernel
theorem dX2_copy_106 : decode cX2_copy 106 = .ok (.ifCond .eq 28, 3) := dk_153 0 28 (dk_at dksX2_copy_4 14 rfl rfl)
theorem dX2_copy_109 : decode cX2_copy 109 = .ok (.aload_n 2, 1) := dk_44 (dk_at dksX2_copy_4 17 rfl rfl)
theorem dX2_copy_110 : decode cX2_copy 110 = .ok (.invokeinterface 48 1, 5) := by decide +kernel
theorem dX2_copy_115 : decode cX2_copy 115 = .ok (.checkcast 67, 3) := dk_192 0 67 (dk_at dksX2_copy_5 0 rfl rfl)
theorem dX2_copy_118 : decode cX2_copy 118 = .ok (.astore_n 3, 1) := dk_78 (dk_at dksX2_copy_5 3 rfl rfl)
theorem dX2_copy_119 : decode cX2_copy 119 = .ok (.aload_n 1, 1) := dk_43 (dk_at dksX2_copy_5 4 rfl rfl)
theorem dX2_copy_120 : decode cX2_copy 120 = .ok (.getfield 21, 3) := dk_180 0 21 (dk_at dksX2_copy_5 5 rfl rfl)
theorem dX2_copy_123 : decode cX2_copy 123 = .ok (.aload_n 3, 1) := dk_45 (dk_at dksX2_copy_5 8 rfl rfl)
theorem dX2_copy_124 : decode cX2_copy 124 = .ok (.invokevirtual 69, 3) := dk_182 0 69 (dk_at dksX2_copy_5 9 rfl rfl)
theorem dX2_copy_127 : decode cX2_copy 127 = .ok (.invokevirtual 58, 3) := dk_182 0 58 (dk_at dksX2_copy_5 12 rfl rfl)
theorem dX2_copy_130 : decode cX2_copy 130 = .ok (.pop, 1) := dk_87 (dk_at dksX2_copy_5 15 rfl rfl)
theorem dX2_copy_131 : decode cX2_copy 131 = .ok (.goto (-31), 3) := dk_167 255 225 (dk_at dksX2_copy_5 16 rfl rfl)
theorem dX2_copy_134 : decode cX2_copy 134 = .ok (.aload_n 1, 1) := dk_43 (dk_at dksX2_copy_5 19 rfl rfl)
theorem dX2_copy_135 : decode cX2_copy 135 = .ok (.getfield 24, 3) := dk_180 0 24 (dk_at dksX2_copy_5 20 rfl rfl)
theorem dX2_copy_138 : decode cX2_copy 138 = .ok (.aload_n 0, 1) := dk_42 (dk_at dksX2_copy_5 23 rfl rfl)
theorem dX2_copy_139 : decode cX2_copy 139 = .ok (.getfield 24, 3) := dk_180 0 24 (dk_at dksX2_copy_6 0 rfl rfl)
theorem dX2_copy_142 : decode cX2_copy 142 = .ok (.invokevirtual 72, 3) := dk_182 0 72 (dk_at dksX2_copy_6 3 rfl rfl)
theorem dX2_copy_145 : decode cX2_copy 145 = .ok (.pop, 1) := dk_87 (dk_at dksX2_copy_6 6 rfl rfl)
theorem dX2_copy_146 : decode cX2_copy 146 = .ok (.aload_n 1, 1) := dk_43 (dk_at dksX2_copy_6 7 rfl rfl)
theorem dX2_copy_147 : decode cX2_copy 147 = .ok (.aload_n 0, 1) := dk_42 (dk_at dksX2_copy_6 8 rfl rfl)
theorem dX2_copy_148 : decode cX2_copy 148 = .ok (.getfield 30, 3) := dk_180 0 30 (dk_at dksX2_copy_6 9 rfl rfl)
theorem dX2_copy_151 : decode cX2_copy 151 = .ok (.invokevirtual 76, 3) := dk_182 0 76 (dk_at dksX2_copy_6 12 rfl rfl)
theorem dX2_copy_154 : decode cX2_copy 154 = .ok (.putfield 30, 3) := dk_181 0 30 (dk_at dksX2_copy_6 15 rfl rfl)
theorem dX2_copy_157 : decode cX2_copy 157 = .ok (.aload_n 1, 1) := dk_43 (dk_at dksX2_copy_6 18 rfl rfl)
theorem dX2_copy_158 : decode cX2_copy 158 = .ok (.aload_n 0, 1) := dk_42 (dk_at dksX2_copy_6 19 rfl rfl)
theorem dX2_copy_159 : decode cX2_copy 159 = .ok (.getfield 34, 3) := dk_180 0 34 (dk_at dksX2_copy_6 20 rfl rfl)
theorem dX2_copy_162 : decode cX2_copy 162 = .ok (.invokevirtual 76, 3) := dk_182 0 76 (dk_at dksX2_copy_7 0 rfl rfl)
theorem dX2_copy_165 : decode cX2_copy 165 = .ok (.putfield 34, 3) := dk_181 0 34 (dk_at dksX2_copy_7 3 rfl rfl)
theorem dX2_copy_168 : decode cX2_copy 168 = .ok (.aload_n 1, 1) := dk_43 (dk_at dksX2_copy_7 6 rfl rfl)
theorem dX2_copy_169 : decode cX2_copy 169 = .ok (.aload_n 0, 1) := dk_42 (dk_at dksX2_copy_7 7 rfl rfl)
theorem dX2_copy_170 : decode cX2_copy 170 = .ok (.getfield 79, 3) := dk_180 0 79 (dk_at dksX2_copy_7 8 rfl rfl)
theorem dX2_copy_173 : decode cX2_copy 173 = .ok (.putfield 79, 3) := dk_181 0 79 (dk_at dksX2_copy_7 11 rfl rfl)
theorem dX2_copy_176 : decode cX2_copy 176 = .ok (.aload_n 1, 1) := dk_43 (dk_at dksX2_copy_7 14 rfl rfl)
theorem dX2_copy_177 : decode cX2_copy 177 = .ok (.aload_n 0, 1) := dk_42 (dk_at dksX2_copy_7 15 rfl rfl)
theorem dX2_copy_178 : decode cX2_copy 178 = .ok (.getfield 83, 3) := dk_180 0 83 (dk_at dksX2_copy_7 16 rfl rfl)
theorem dX2_copy_181 : decode cX2_copy 181 = .ok (.putfield 83, 3) := dk_181 0 83 (dk_at dksX2_copy_7 19 rfl rfl)
theorem dX2_copy_184 : decode cX2_copy 184 = .ok (.aload_n 1, 1) := dk_43 (dk_at dksX2_copy_7 22 rfl rfl)
theorem dX2_copy_185 : decode cX2_copy 185 = .ok (.aload_n 0, 1) := dk_42 (dk_at dksX2_copy_7 23 rfl rfl)
theorem dX2_copy_186 : decode cX2_copy 186 = .ok (.getfield 86, 3) := dk_180 0 86 (dk_at dksX2_copy_8 0 rfl rfl)
theorem dX2_copy_189 : decode cX2_copy 189 = .ok (.putfield 86, 3) := dk_181 0 86 (dk_at dksX2_copy_8 3 rfl rfl)
theorem dX2_copy_192 : decode cX2_copy 192 = .ok (.aload_n 1, 1) := dk_43 (dk_at dksX2_copy_8 6 rfl rfl)
theorem dX2_copy_193 : decode cX2_copy 193 = .ok (.aload_n 0, 1) := dk_42 (dk_at dksX2_copy_8 7 rfl rfl)
theorem dX2_copy_194 : decode cX2_copy 194 = .ok (.getfield 89, 3) := dk_180 0 89 (dk_at dksX2_copy_8 8 rfl rfl)
theorem dX2_copy_197 : decode cX2_copy 197 = .ok (.putfield 89, 3) := dk_181 0 89 (dk_at dksX2_copy_8 11 rfl rfl)
theorem dX2_copy_200 : decode cX2_copy 200 = .ok (.aload_n 1, 1) := dk_43 (dk_at dksX2_copy_8 14 rfl rfl)
theorem dX2_copy_201 : decode cX2_copy 201 = .ok (.aload_n 0, 1) := dk_42 (dk_at dksX2_copy_8 15 rfl rfl)
theorem dX2_copy_202 : decode cX2_copy 202 = .ok (.getfield 92, 3) := dk_180 0 92 (dk_at dksX2_copy_8 16 rfl rfl)
theorem dX2_copy_205 : decode cX2_copy 205 = .ok (.putfield 92, 3) := dk_181 0 92 (dk_at dksX2_copy_8 19 rfl rfl)
theorem dX2_copy_208 : decode cX2_copy 208 = .ok (.aload_n 1, 1) := dk_43 (dk_at dksX2_copy_8 22 rfl rfl)
theorem dX2_copy_209 : decode cX2_copy 209 = .ok (.areturn, 1) := dk_176 (dk_at dksX2_copy_8 23 rfl rfl)
abbrev cX2_addMat : ByteArray := prog_5_method_14_code
def yX2_addMat : MethodName := ⟨RX2, "addMat", "()I"⟩
def dkwX2_addMat_1 : List UInt8 := [180, 0, 12, 187, 0, 52, 89, 183, 0, 143, 182, 0, 58, 87, 42, 180, 0, 12, 182, 0, 95, 4, 100, 172]
abbrev dktX2_addMat_1 : List UInt8 := dkwX2_addMat_1 ++ []
def dkwX2_addMat_0 : List UInt8 := [42, 180, 0, 12, 182, 0, 95, 16, 6, 160, 0, 7, 4, 167, 0, 4, 3, 4, 16, 6, 184, 0, 139, 42]
abbrev dktX2_addMat_0 : List UInt8 := dkwX2_addMat_0 ++ dktX2_addMat_1
theorem dksX2_addMat_0 : cX2_addMat.data.toList.drop 0 = dktX2_addMat_0 := by decide +kernel
theorem dksX2_addMat_1 : cX2_addMat.data.toList.drop 24 = dktX2_addMat_1 := dk_seg dksX2_addMat_0 24 rfl rfl
theorem dX2_addMat_0 : decode cX2_addMat 0 = .ok (.aload_n 0, 1) := dk_42 (dk_at dksX2_addMat_0 0 rfl rfl)
theorem dX2_addMat_1 : decode cX2_addMat 1 = .ok (.getfield 12, 3) := dk_180 0 12 (dk_at dksX2_addMat_0 1 rfl rfl)
theorem dX2_addMat_4 : decode cX2_addMat 4 = .ok (.invokevirtual 95, 3) := dk_182 0 95 (dk_at dksX2_addMat_0 4 rfl rfl)
theorem dX2_addMat_7 : decode cX2_addMat 7 = .ok (.bipush 6, 2) := dk_16 6 (dk_at dksX2_addMat_0 7 rfl rfl)
theorem dX2_addMat_9 : decode cX2_addMat 9 = .ok (.if_icmp .ne 7, 3) := dk_160 0 7 (dk_at dksX2_addMat_0 9 rfl rfl)
theorem dX2_addMat_12 : decode cX2_addMat 12 = .ok (.iconst 1, 1) := dk_4 (dk_at dksX2_addMat_0 12 rfl rfl)
theorem dX2_addMat_13 : decode cX2_addMat 13 = .ok (.goto 4, 3) := dk_167 0 4 (dk_at dksX2_addMat_0 13 rfl rfl)
theorem dX2_addMat_16 : decode cX2_addMat 16 = .ok (.iconst 0, 1) := dk_3 (dk_at dksX2_addMat_0 16 rfl rfl)
theorem dX2_addMat_17 : decode cX2_addMat 17 = .ok (.iconst 1, 1) := dk_4 (dk_at dksX2_addMat_0 17 rfl rfl)
theorem dX2_addMat_18 : decode cX2_addMat 18 = .ok (.bipush 6, 2) := dk_16 6 (dk_at dksX2_addMat_0 18 rfl rfl)
theorem dX2_addMat_20 : decode cX2_addMat 20 = .ok (.invokestatic 139, 3) := dk_184 0 139 (dk_at dksX2_addMat_0 20 rfl rfl)
theorem dX2_addMat_23 : decode cX2_addMat 23 = .ok (.aload_n 0, 1) := dk_42 (dk_at dksX2_addMat_0 23 rfl rfl)
theorem dX2_addMat_24 : decode cX2_addMat 24 = .ok (.getfield 12, 3) := dk_180 0 12 (dk_at dksX2_addMat_1 0 rfl rfl)
theorem dX2_addMat_27 : decode cX2_addMat 27 = .ok (.new 52, 3) := dk_187 0 52 (dk_at dksX2_addMat_1 3 rfl rfl)
theorem dX2_addMat_30 : decode cX2_addMat 30 = .ok (.dup, 1) := dk_89 (dk_at dksX2_addMat_1 6 rfl rfl)
theorem dX2_addMat_31 : decode cX2_addMat 31 = .ok (.invokespecial 143, 3) := dk_183 0 143 (dk_at dksX2_addMat_1 7 rfl rfl)
theorem dX2_addMat_34 : decode cX2_addMat 34 = .ok (.invokevirtual 58, 3) := dk_182 0 58 (dk_at dksX2_addMat_1 10 rfl rfl)
theorem dX2_addMat_37 : decode cX2_addMat 37 = .ok (.pop, 1) := dk_87 (dk_at dksX2_addMat_1 13 rfl rfl)
theorem dX2_addMat_38 : decode cX2_addMat 38 = .ok (.aload_n 0, 1) := dk_42 (dk_at dksX2_addMat_1 14 rfl rfl)
theorem dX2_addMat_39 : decode cX2_addMat 39 = .ok (.getfield 12, 3) := dk_180 0 12 (dk_at dksX2_addMat_1 15 rfl rfl)
theorem dX2_addMat_42 : decode cX2_addMat 42 = .ok (.invokevirtual 95, 3) := dk_182 0 95 (dk_at dksX2_addMat_1 18 rfl rfl)
theorem dX2_addMat_45 : decode cX2_addMat 45 = .ok (.iconst 1, 1) := dk_4 (dk_at dksX2_addMat_1 21 rfl rfl)
theorem dX2_addMat_46 : decode cX2_addMat 46 = .ok (.isub, 1) := dk_100 (dk_at dksX2_addMat_1 22 rfl rfl)
theorem dX2_addMat_47 : decode cX2_addMat 47 = .ok (.ireturn, 1) := dk_172 (dk_at dksX2_addMat_1 23 rfl rfl)
abbrev cX2_isMat : ByteArray := prog_5_method_3_code
def yX2_isMat : MethodName := ⟨RX2, "isMat", "(I)Z"⟩
def dkwX2_isMat_0 : List UInt8 := [27, 3, 42, 180, 0, 12, 182, 0, 95, 4, 100, 184, 0, 99, 172]
abbrev dktX2_isMat_0 : List UInt8 := dkwX2_isMat_0 ++ []
theorem dksX2_isMat_0 : cX2_isMat.data.toList.drop 0 = dktX2_isMat_0 := by decide +kernel
theorem dX2_isMat_0 : decode cX2_isMat 0 = .ok (.iload_n 1, 1) := dk_27 (dk_at dksX2_isMat_0 0 rfl rfl)
theorem dX2_isMat_1 : decode cX2_isMat 1 = .ok (.iconst 0, 1) := dk_3 (dk_at dksX2_isMat_0 1 rfl rfl)
theorem dX2_isMat_2 : decode cX2_isMat 2 = .ok (.aload_n 0, 1) := dk_42 (dk_at dksX2_isMat_0 2 rfl rfl)
theorem dX2_isMat_3 : decode cX2_isMat 3 = .ok (.getfield 12, 3) := dk_180 0 12 (dk_at dksX2_isMat_0 3 rfl rfl)
theorem dX2_isMat_6 : decode cX2_isMat 6 = .ok (.invokevirtual 95, 3) := dk_182 0 95 (dk_at dksX2_isMat_0 6 rfl rfl)
theorem dX2_isMat_9 : decode cX2_isMat 9 = .ok (.iconst 1, 1) := dk_4 (dk_at dksX2_isMat_0 9 rfl rfl)
theorem dX2_isMat_10 : decode cX2_isMat 10 = .ok (.isub, 1) := dk_100 (dk_at dksX2_isMat_0 10 rfl rfl)
theorem dX2_isMat_11 : decode cX2_isMat 11 = .ok (.invokestatic 99, 3) := dk_184 0 99 (dk_at dksX2_isMat_0 11 rfl rfl)
theorem dX2_isMat_14 : decode cX2_isMat 14 = .ok (.ireturn, 1) := dk_172 (dk_at dksX2_isMat_0 14 rfl rfl)
abbrev cX2_fix : ByteArray := prog_5_method_15_code
def yX2_fix : MethodName := ⟨RX2, "fix", "(II)I"⟩
def dkwX2_fix_4 : List UInt8 := [172]
abbrev dktX2_fix_4 : List UInt8 := dkwX2_fix_4 ++ []
def dkwX2_fix_3 : List UInt8 := [184, 0, 139, 45, 180, 0, 156, 28, 3, 79, 42, 89, 180, 0, 89, 4, 96, 181, 0, 89, 45, 182, 0, 160]
abbrev dktX2_fix_3 : List UInt8 := dkwX2_fix_3 ++ dktX2_fix_4
def dkwX2_fix_2 : List UInt8 := [180, 0, 153, 184, 0, 139, 45, 180, 0, 156, 28, 46, 154, 0, 7, 4, 167, 0, 4, 3, 16, 13, 28]
abbrev dktX2_fix_2 : List UInt8 := dkwX2_fix_2 ++ dktX2_fix_3
def dkwX2_fix_1 : List UInt8 := [25, 4, 198, 0, 7, 4, 167, 0, 4, 3, 16, 10, 25, 4, 199, 0, 7, 2, 167, 0, 8, 25, 4]
abbrev dktX2_fix_1 : List UInt8 := dkwX2_fix_1 ++ dktX2_fix_2
def dkwX2_fix_0 : List UInt8 := [42, 180, 0, 12, 27, 182, 0, 144, 192, 0, 52, 78, 42, 27, 186, 0, 148, 0, 0, 182, 0, 149, 58, 4]
abbrev dktX2_fix_0 : List UInt8 := dkwX2_fix_0 ++ dktX2_fix_1
theorem dksX2_fix_0 : cX2_fix.data.toList.drop 0 = dktX2_fix_0 := by decide +kernel
theorem dksX2_fix_1 : cX2_fix.data.toList.drop 24 = dktX2_fix_1 := dk_seg dksX2_fix_0 24 rfl rfl
theorem dksX2_fix_2 : cX2_fix.data.toList.drop 47 = dktX2_fix_2 := dk_seg dksX2_fix_1 23 rfl rfl
theorem dksX2_fix_3 : cX2_fix.data.toList.drop 70 = dktX2_fix_3 := dk_seg dksX2_fix_2 23 rfl rfl
theorem dksX2_fix_4 : cX2_fix.data.toList.drop 94 = dktX2_fix_4 := dk_seg dksX2_fix_3 24 rfl rfl
theorem dX2_fix_0 : decode cX2_fix 0 = .ok (.aload_n 0, 1) := dk_42 (dk_at dksX2_fix_0 0 rfl rfl)
theorem dX2_fix_1 : decode cX2_fix 1 = .ok (.getfield 12, 3) := dk_180 0 12 (dk_at dksX2_fix_0 1 rfl rfl)
theorem dX2_fix_4 : decode cX2_fix 4 = .ok (.iload_n 1, 1) := dk_27 (dk_at dksX2_fix_0 4 rfl rfl)
theorem dX2_fix_5 : decode cX2_fix 5 = .ok (.invokevirtual 144, 3) := dk_182 0 144 (dk_at dksX2_fix_0 5 rfl rfl)
theorem dX2_fix_8 : decode cX2_fix 8 = .ok (.checkcast 52, 3) := dk_192 0 52 (dk_at dksX2_fix_0 8 rfl rfl)
theorem dX2_fix_11 : decode cX2_fix 11 = .ok (.astore_n 3, 1) := dk_78 (dk_at dksX2_fix_0 11 rfl rfl)
theorem dX2_fix_12 : decode cX2_fix 12 = .ok (.aload_n 0, 1) := dk_42 (dk_at dksX2_fix_0 12 rfl rfl)
theorem dX2_fix_13 : decode cX2_fix 13 = .ok (.iload_n 1, 1) := dk_27 (dk_at dksX2_fix_0 13 rfl rfl)
theorem dX2_fix_14 : decode cX2_fix 14 = .ok (.invokedynamic 148, 5) := by decide +kernel
theorem dX2_fix_19 : decode cX2_fix 19 = .ok (.invokevirtual 149, 3) := dk_182 0 149 (dk_at dksX2_fix_0 19 rfl rfl)
theorem dX2_fix_22 : decode cX2_fix 22 = .ok (.astore 4, 2) := dk_58 4 (dk_at dksX2_fix_0 22 rfl rfl)
theorem dX2_fix_24 : decode cX2_fix 24 = .ok (.aload 4, 2) := dk_25 4 (dk_at dksX2_fix_1 0 rfl rfl)
theorem dX2_fix_26 : decode cX2_fix 26 = .ok (.ifnull 7, 3) := dk_198 0 7 (dk_at dksX2_fix_1 2 rfl rfl)
theorem dX2_fix_29 : decode cX2_fix 29 = .ok (.iconst 1, 1) := dk_4 (dk_at dksX2_fix_1 5 rfl rfl)
theorem dX2_fix_30 : decode cX2_fix 30 = .ok (.goto 4, 3) := dk_167 0 4 (dk_at dksX2_fix_1 6 rfl rfl)
theorem dX2_fix_33 : decode cX2_fix 33 = .ok (.iconst 0, 1) := dk_3 (dk_at dksX2_fix_1 9 rfl rfl)
theorem dX2_fix_34 : decode cX2_fix 34 = .ok (.bipush 10, 2) := dk_16 10 (dk_at dksX2_fix_1 10 rfl rfl)
theorem dX2_fix_36 : decode cX2_fix 36 = .ok (.aload 4, 2) := dk_25 4 (dk_at dksX2_fix_1 12 rfl rfl)
theorem dX2_fix_38 : decode cX2_fix 38 = .ok (.ifnonnull 7, 3) := dk_199 0 7 (dk_at dksX2_fix_1 14 rfl rfl)
theorem dX2_fix_41 : decode cX2_fix 41 = .ok (.iconst (-1), 1) := dk_2 (dk_at dksX2_fix_1 17 rfl rfl)
theorem dX2_fix_42 : decode cX2_fix 42 = .ok (.goto 8, 3) := dk_167 0 8 (dk_at dksX2_fix_1 18 rfl rfl)
theorem dX2_fix_45 : decode cX2_fix 45 = .ok (.aload 4, 2) := dk_25 4 (dk_at dksX2_fix_1 21 rfl rfl)
theorem dX2_fix_47 : decode cX2_fix 47 = .ok (.getfield 153, 3) := dk_180 0 153 (dk_at dksX2_fix_2 0 rfl rfl)
theorem dX2_fix_50 : decode cX2_fix 50 = .ok (.invokestatic 139, 3) := dk_184 0 139 (dk_at dksX2_fix_2 3 rfl rfl)
theorem dX2_fix_53 : decode cX2_fix 53 = .ok (.aload_n 3, 1) := dk_45 (dk_at dksX2_fix_2 6 rfl rfl)
theorem dX2_fix_54 : decode cX2_fix 54 = .ok (.getfield 156, 3) := dk_180 0 156 (dk_at dksX2_fix_2 7 rfl rfl)
theorem dX2_fix_57 : decode cX2_fix 57 = .ok (.iload_n 2, 1) := dk_28 (dk_at dksX2_fix_2 10 rfl rfl)
theorem dX2_fix_58 : decode cX2_fix 58 = .ok (.iaload, 1) := dk_46 (dk_at dksX2_fix_2 11 rfl rfl)
theorem dX2_fix_59 : decode cX2_fix 59 = .ok (.ifCond .ne 7, 3) := dk_154 0 7 (dk_at dksX2_fix_2 12 rfl rfl)
theorem dX2_fix_62 : decode cX2_fix 62 = .ok (.iconst 1, 1) := dk_4 (dk_at dksX2_fix_2 15 rfl rfl)
theorem dX2_fix_63 : decode cX2_fix 63 = .ok (.goto 4, 3) := dk_167 0 4 (dk_at dksX2_fix_2 16 rfl rfl)
theorem dX2_fix_66 : decode cX2_fix 66 = .ok (.iconst 0, 1) := dk_3 (dk_at dksX2_fix_2 19 rfl rfl)
theorem dX2_fix_67 : decode cX2_fix 67 = .ok (.bipush 13, 2) := dk_16 13 (dk_at dksX2_fix_2 20 rfl rfl)
theorem dX2_fix_69 : decode cX2_fix 69 = .ok (.iload_n 2, 1) := dk_28 (dk_at dksX2_fix_2 22 rfl rfl)
theorem dX2_fix_70 : decode cX2_fix 70 = .ok (.invokestatic 139, 3) := dk_184 0 139 (dk_at dksX2_fix_3 0 rfl rfl)
theorem dX2_fix_73 : decode cX2_fix 73 = .ok (.aload_n 3, 1) := dk_45 (dk_at dksX2_fix_3 3 rfl rfl)
theorem dX2_fix_74 : decode cX2_fix 74 = .ok (.getfield 156, 3) := dk_180 0 156 (dk_at dksX2_fix_3 4 rfl rfl)
theorem dX2_fix_77 : decode cX2_fix 77 = .ok (.iload_n 2, 1) := dk_28 (dk_at dksX2_fix_3 7 rfl rfl)
theorem dX2_fix_78 : decode cX2_fix 78 = .ok (.iconst 0, 1) := dk_3 (dk_at dksX2_fix_3 8 rfl rfl)
theorem dX2_fix_79 : decode cX2_fix 79 = .ok (.iastore, 1) := dk_79 (dk_at dksX2_fix_3 9 rfl rfl)
theorem dX2_fix_80 : decode cX2_fix 80 = .ok (.aload_n 0, 1) := dk_42 (dk_at dksX2_fix_3 10 rfl rfl)
theorem dX2_fix_81 : decode cX2_fix 81 = .ok (.dup, 1) := dk_89 (dk_at dksX2_fix_3 11 rfl rfl)
theorem dX2_fix_82 : decode cX2_fix 82 = .ok (.getfield 89, 3) := dk_180 0 89 (dk_at dksX2_fix_3 12 rfl rfl)
theorem dX2_fix_85 : decode cX2_fix 85 = .ok (.iconst 1, 1) := dk_4 (dk_at dksX2_fix_3 15 rfl rfl)
theorem dX2_fix_86 : decode cX2_fix 86 = .ok (.iadd, 1) := dk_96 (dk_at dksX2_fix_3 16 rfl rfl)
theorem dX2_fix_87 : decode cX2_fix 87 = .ok (.putfield 89, 3) := dk_181 0 89 (dk_at dksX2_fix_3 17 rfl rfl)
theorem dX2_fix_90 : decode cX2_fix 90 = .ok (.aload_n 3, 1) := dk_45 (dk_at dksX2_fix_3 20 rfl rfl)
theorem dX2_fix_91 : decode cX2_fix 91 = .ok (.invokevirtual 160, 3) := dk_182 0 160 (dk_at dksX2_fix_3 21 rfl rfl)
theorem dX2_fix_94 : decode cX2_fix 94 = .ok (.ireturn, 1) := dk_172 (dk_at dksX2_fix_4 0 rfl rfl)
abbrev cX2_lambda_fix_1 : ByteArray := prog_5_method_41_code
def yX2_lambda_fix_1 : MethodName := ⟨RX2, "lambda$fix$1", "(ILJumpHall$Jumper;)Z"⟩
def dkwX2_lambda_fix_1_0 : List UInt8 := [43, 26, 182, 0, 170, 172]
abbrev dktX2_lambda_fix_1_0 : List UInt8 := dkwX2_lambda_fix_1_0 ++ []
theorem dksX2_lambda_fix_1_0 : cX2_lambda_fix_1.data.toList.drop 0 = dktX2_lambda_fix_1_0 := by decide +kernel
theorem dX2_lambda_fix_1_0 : decode cX2_lambda_fix_1 0 = .ok (.aload_n 1, 1) := dk_43 (dk_at dksX2_lambda_fix_1_0 0 rfl rfl)
theorem dX2_lambda_fix_1_1 : decode cX2_lambda_fix_1 1 = .ok (.iload_n 0, 1) := dk_26 (dk_at dksX2_lambda_fix_1_0 1 rfl rfl)
theorem dX2_lambda_fix_1_2 : decode cX2_lambda_fix_1 2 = .ok (.invokevirtual 170, 3) := dk_182 0 170 (dk_at dksX2_lambda_fix_1_0 2 rfl rfl)
theorem dX2_lambda_fix_1_5 : decode cX2_lambda_fix_1 5 = .ok (.ireturn, 1) := dk_172 (dk_at dksX2_lambda_fix_1_0 5 rfl rfl)
abbrev cX2_lowest : ByteArray := prog_5_method_8_code
def yX2_lowest : MethodName := ⟨RX2, "lowest", "(LJumpHall$Test;)LJumpHall$Jumper;"⟩
def dkwX2_lowest_1 : List UInt8 := [192, 0, 62, 78, 43, 45, 185, 0, 103, 2, 0, 153, 0, 5, 45, 176, 167, 255, 225, 1, 176]
abbrev dktX2_lowest_1 : List UInt8 := dkwX2_lowest_1 ++ []
def dkwX2_lowest_0 : List UInt8 := [42, 180, 0, 18, 182, 0, 38, 77, 44, 185, 0, 42, 1, 0, 153, 0, 28, 44, 185, 0, 48, 1, 0]
abbrev dktX2_lowest_0 : List UInt8 := dkwX2_lowest_0 ++ dktX2_lowest_1
theorem dksX2_lowest_0 : cX2_lowest.data.toList.drop 0 = dktX2_lowest_0 := by decide +kernel
theorem dksX2_lowest_1 : cX2_lowest.data.toList.drop 23 = dktX2_lowest_1 := dk_seg dksX2_lowest_0 23 rfl rfl
theorem dX2_lowest_0 : decode cX2_lowest 0 = .ok (.aload_n 0, 1) := dk_42 (dk_at dksX2_lowest_0 0 rfl rfl)
theorem dX2_lowest_1 : decode cX2_lowest 1 = .ok (.getfield 18, 3) := dk_180 0 18 (dk_at dksX2_lowest_0 1 rfl rfl)
theorem dX2_lowest_4 : decode cX2_lowest 4 = .ok (.invokevirtual 38, 3) := dk_182 0 38 (dk_at dksX2_lowest_0 4 rfl rfl)
theorem dX2_lowest_7 : decode cX2_lowest 7 = .ok (.astore_n 2, 1) := dk_77 (dk_at dksX2_lowest_0 7 rfl rfl)
theorem dX2_lowest_8 : decode cX2_lowest 8 = .ok (.aload_n 2, 1) := dk_44 (dk_at dksX2_lowest_0 8 rfl rfl)
theorem dX2_lowest_9 : decode cX2_lowest 9 = .ok (.invokeinterface 42 1, 5) := by decide +kernel
theorem dX2_lowest_14 : decode cX2_lowest 14 = .ok (.ifCond .eq 28, 3) := dk_153 0 28 (dk_at dksX2_lowest_0 14 rfl rfl)
theorem dX2_lowest_17 : decode cX2_lowest 17 = .ok (.aload_n 2, 1) := dk_44 (dk_at dksX2_lowest_0 17 rfl rfl)
theorem dX2_lowest_18 : decode cX2_lowest 18 = .ok (.invokeinterface 48 1, 5) := by decide +kernel
theorem dX2_lowest_23 : decode cX2_lowest 23 = .ok (.checkcast 62, 3) := dk_192 0 62 (dk_at dksX2_lowest_1 0 rfl rfl)
theorem dX2_lowest_26 : decode cX2_lowest 26 = .ok (.astore_n 3, 1) := dk_78 (dk_at dksX2_lowest_1 3 rfl rfl)
theorem dX2_lowest_27 : decode cX2_lowest 27 = .ok (.aload_n 1, 1) := dk_43 (dk_at dksX2_lowest_1 4 rfl rfl)
theorem dX2_lowest_28 : decode cX2_lowest 28 = .ok (.aload_n 3, 1) := dk_45 (dk_at dksX2_lowest_1 5 rfl rfl)
theorem dX2_lowest_29 : decode cX2_lowest 29 = .ok (.invokeinterface 103 2, 5) := by decide +kernel
theorem dX2_lowest_34 : decode cX2_lowest 34 = .ok (.ifCond .eq 5, 3) := dk_153 0 5 (dk_at dksX2_lowest_1 11 rfl rfl)
theorem dX2_lowest_37 : decode cX2_lowest 37 = .ok (.aload_n 3, 1) := dk_45 (dk_at dksX2_lowest_1 14 rfl rfl)
theorem dX2_lowest_38 : decode cX2_lowest 38 = .ok (.areturn, 1) := dk_176 (dk_at dksX2_lowest_1 15 rfl rfl)
theorem dX2_lowest_39 : decode cX2_lowest 39 = .ok (.goto (-31), 3) := dk_167 255 225 (dk_at dksX2_lowest_1 16 rfl rfl)
theorem dX2_lowest_42 : decode cX2_lowest 42 = .ok (.aconst_null, 1) := dk_1 (dk_at dksX2_lowest_1 19 rfl rfl)
theorem dX2_lowest_43 : decode cX2_lowest 43 = .ok (.areturn, 1) := dk_176 (dk_at dksX2_lowest_1 20 rfl rfl)
abbrev cX2_open : ByteArray := prog_5_method_16_code
def yX2_open : MethodName := ⟨RX2, "open", "(I)I"⟩
def dkwX2_open_1 : List UInt8 := [16, 14, 27, 184, 0, 139, 44, 3, 181, 0, 135, 44, 182, 0, 160, 172]
abbrev dktX2_open_1 : List UInt8 := dkwX2_open_1 ++ []
def dkwX2_open_0 : List UInt8 := [42, 180, 0, 12, 27, 182, 0, 144, 192, 0, 52, 77, 44, 180, 0, 135, 154, 0, 7, 4, 167, 0, 4, 3]
abbrev dktX2_open_0 : List UInt8 := dkwX2_open_0 ++ dktX2_open_1
theorem dksX2_open_0 : cX2_open.data.toList.drop 0 = dktX2_open_0 := by decide +kernel
theorem dksX2_open_1 : cX2_open.data.toList.drop 24 = dktX2_open_1 := dk_seg dksX2_open_0 24 rfl rfl
theorem dX2_open_0 : decode cX2_open 0 = .ok (.aload_n 0, 1) := dk_42 (dk_at dksX2_open_0 0 rfl rfl)
theorem dX2_open_1 : decode cX2_open 1 = .ok (.getfield 12, 3) := dk_180 0 12 (dk_at dksX2_open_0 1 rfl rfl)
theorem dX2_open_4 : decode cX2_open 4 = .ok (.iload_n 1, 1) := dk_27 (dk_at dksX2_open_0 4 rfl rfl)
theorem dX2_open_5 : decode cX2_open 5 = .ok (.invokevirtual 144, 3) := dk_182 0 144 (dk_at dksX2_open_0 5 rfl rfl)
theorem dX2_open_8 : decode cX2_open 8 = .ok (.checkcast 52, 3) := dk_192 0 52 (dk_at dksX2_open_0 8 rfl rfl)
theorem dX2_open_11 : decode cX2_open 11 = .ok (.astore_n 2, 1) := dk_77 (dk_at dksX2_open_0 11 rfl rfl)
theorem dX2_open_12 : decode cX2_open 12 = .ok (.aload_n 2, 1) := dk_44 (dk_at dksX2_open_0 12 rfl rfl)
theorem dX2_open_13 : decode cX2_open 13 = .ok (.getfield 135, 3) := dk_180 0 135 (dk_at dksX2_open_0 13 rfl rfl)
theorem dX2_open_16 : decode cX2_open 16 = .ok (.ifCond .ne 7, 3) := dk_154 0 7 (dk_at dksX2_open_0 16 rfl rfl)
theorem dX2_open_19 : decode cX2_open 19 = .ok (.iconst 1, 1) := dk_4 (dk_at dksX2_open_0 19 rfl rfl)
theorem dX2_open_20 : decode cX2_open 20 = .ok (.goto 4, 3) := dk_167 0 4 (dk_at dksX2_open_0 20 rfl rfl)
theorem dX2_open_23 : decode cX2_open 23 = .ok (.iconst 0, 1) := dk_3 (dk_at dksX2_open_0 23 rfl rfl)
theorem dX2_open_24 : decode cX2_open 24 = .ok (.bipush 14, 2) := dk_16 14 (dk_at dksX2_open_1 0 rfl rfl)
theorem dX2_open_26 : decode cX2_open 26 = .ok (.iload_n 1, 1) := dk_27 (dk_at dksX2_open_1 2 rfl rfl)
theorem dX2_open_27 : decode cX2_open 27 = .ok (.invokestatic 139, 3) := dk_184 0 139 (dk_at dksX2_open_1 3 rfl rfl)
theorem dX2_open_30 : decode cX2_open 30 = .ok (.aload_n 2, 1) := dk_44 (dk_at dksX2_open_1 6 rfl rfl)
theorem dX2_open_31 : decode cX2_open 31 = .ok (.iconst 0, 1) := dk_3 (dk_at dksX2_open_1 7 rfl rfl)
theorem dX2_open_32 : decode cX2_open 32 = .ok (.putfield 135, 3) := dk_181 0 135 (dk_at dksX2_open_1 8 rfl rfl)
theorem dX2_open_35 : decode cX2_open 35 = .ok (.aload_n 2, 1) := dk_44 (dk_at dksX2_open_1 11 rfl rfl)
theorem dX2_open_36 : decode cX2_open 36 = .ok (.invokevirtual 160, 3) := dk_182 0 160 (dk_at dksX2_open_1 12 rfl rfl)
theorem dX2_open_39 : decode cX2_open 39 = .ok (.ireturn, 1) := dk_172 (dk_at dksX2_open_1 15 rfl rfl)
abbrev cX2_many : ByteArray := prog_5_method_6_code
def yX2_many : MethodName := ⟨RX2, "many", "(LJumpHall$Test;)I"⟩
def dkwX2_many_2 : List UInt8 := [167, 0, 4, 3, 96, 61, 167, 255, 217, 28, 172]
abbrev dktX2_many_2 : List UInt8 := dkwX2_many_2 ++ []
def dkwX2_many_1 : List UInt8 := [185, 0, 48, 1, 0, 192, 0, 62, 58, 4, 28, 43, 25, 4, 185, 0, 103, 2, 0, 153, 0, 7, 4]
abbrev dktX2_many_1 : List UInt8 := dkwX2_many_1 ++ dktX2_many_2
def dkwX2_many_0 : List UInt8 := [3, 61, 42, 180, 0, 18, 182, 0, 38, 78, 45, 185, 0, 42, 1, 0, 153, 0, 36, 45]
abbrev dktX2_many_0 : List UInt8 := dkwX2_many_0 ++ dktX2_many_1
theorem dksX2_many_0 : cX2_many.data.toList.drop 0 = dktX2_many_0 := by decide +kernel
theorem dksX2_many_1 : cX2_many.data.toList.drop 20 = dktX2_many_1 := dk_seg dksX2_many_0 20 rfl rfl
theorem dksX2_many_2 : cX2_many.data.toList.drop 43 = dktX2_many_2 := dk_seg dksX2_many_1 23 rfl rfl
theorem dX2_many_0 : decode cX2_many 0 = .ok (.iconst 0, 1) := dk_3 (dk_at dksX2_many_0 0 rfl rfl)
theorem dX2_many_1 : decode cX2_many 1 = .ok (.istore_n 2, 1) := dk_61 (dk_at dksX2_many_0 1 rfl rfl)
theorem dX2_many_2 : decode cX2_many 2 = .ok (.aload_n 0, 1) := dk_42 (dk_at dksX2_many_0 2 rfl rfl)
theorem dX2_many_3 : decode cX2_many 3 = .ok (.getfield 18, 3) := dk_180 0 18 (dk_at dksX2_many_0 3 rfl rfl)
theorem dX2_many_6 : decode cX2_many 6 = .ok (.invokevirtual 38, 3) := dk_182 0 38 (dk_at dksX2_many_0 6 rfl rfl)
theorem dX2_many_9 : decode cX2_many 9 = .ok (.astore_n 3, 1) := dk_78 (dk_at dksX2_many_0 9 rfl rfl)
theorem dX2_many_10 : decode cX2_many 10 = .ok (.aload_n 3, 1) := dk_45 (dk_at dksX2_many_0 10 rfl rfl)
theorem dX2_many_11 : decode cX2_many 11 = .ok (.invokeinterface 42 1, 5) := by decide +kernel
theorem dX2_many_16 : decode cX2_many 16 = .ok (.ifCond .eq 36, 3) := dk_153 0 36 (dk_at dksX2_many_0 16 rfl rfl)
theorem dX2_many_19 : decode cX2_many 19 = .ok (.aload_n 3, 1) := dk_45 (dk_at dksX2_many_0 19 rfl rfl)
theorem dX2_many_20 : decode cX2_many 20 = .ok (.invokeinterface 48 1, 5) := by decide +kernel
theorem dX2_many_25 : decode cX2_many 25 = .ok (.checkcast 62, 3) := dk_192 0 62 (dk_at dksX2_many_1 5 rfl rfl)
theorem dX2_many_28 : decode cX2_many 28 = .ok (.astore 4, 2) := dk_58 4 (dk_at dksX2_many_1 8 rfl rfl)
theorem dX2_many_30 : decode cX2_many 30 = .ok (.iload_n 2, 1) := dk_28 (dk_at dksX2_many_1 10 rfl rfl)
theorem dX2_many_31 : decode cX2_many 31 = .ok (.aload_n 1, 1) := dk_43 (dk_at dksX2_many_1 11 rfl rfl)
theorem dX2_many_32 : decode cX2_many 32 = .ok (.aload 4, 2) := dk_25 4 (dk_at dksX2_many_1 12 rfl rfl)
theorem dX2_many_34 : decode cX2_many 34 = .ok (.invokeinterface 103 2, 5) := by decide +kernel
theorem dX2_many_39 : decode cX2_many 39 = .ok (.ifCond .eq 7, 3) := dk_153 0 7 (dk_at dksX2_many_1 19 rfl rfl)
theorem dX2_many_42 : decode cX2_many 42 = .ok (.iconst 1, 1) := dk_4 (dk_at dksX2_many_1 22 rfl rfl)
theorem dX2_many_43 : decode cX2_many 43 = .ok (.goto 4, 3) := dk_167 0 4 (dk_at dksX2_many_2 0 rfl rfl)
theorem dX2_many_46 : decode cX2_many 46 = .ok (.iconst 0, 1) := dk_3 (dk_at dksX2_many_2 3 rfl rfl)
theorem dX2_many_47 : decode cX2_many 47 = .ok (.iadd, 1) := dk_96 (dk_at dksX2_many_2 4 rfl rfl)
theorem dX2_many_48 : decode cX2_many 48 = .ok (.istore_n 2, 1) := dk_61 (dk_at dksX2_many_2 5 rfl rfl)
theorem dX2_many_49 : decode cX2_many 49 = .ok (.goto (-39), 3) := dk_167 255 217 (dk_at dksX2_many_2 6 rfl rfl)
theorem dX2_many_52 : decode cX2_many 52 = .ok (.iload_n 2, 1) := dk_28 (dk_at dksX2_many_2 9 rfl rfl)
theorem dX2_many_53 : decode cX2_many 53 = .ok (.ireturn, 1) := dk_172 (dk_at dksX2_many_2 10 rfl rfl)
abbrev cX2_weightOn : ByteArray := prog_5_method_9_code
def yX2_weightOn : MethodName := ⟨RX2, "weightOn", "(I)I"⟩
def dkwX2_weightOn_0 : List UInt8 := [42, 27, 186, 0, 112, 0, 0, 182, 0, 115, 172]
abbrev dktX2_weightOn_0 : List UInt8 := dkwX2_weightOn_0 ++ []
theorem dksX2_weightOn_0 : cX2_weightOn.data.toList.drop 0 = dktX2_weightOn_0 := by decide +kernel
theorem dX2_weightOn_0 : decode cX2_weightOn 0 = .ok (.aload_n 0, 1) := dk_42 (dk_at dksX2_weightOn_0 0 rfl rfl)
theorem dX2_weightOn_1 : decode cX2_weightOn 1 = .ok (.iload_n 1, 1) := dk_27 (dk_at dksX2_weightOn_0 1 rfl rfl)
theorem dX2_weightOn_2 : decode cX2_weightOn 2 = .ok (.invokedynamic 112, 5) := by decide +kernel
theorem dX2_weightOn_7 : decode cX2_weightOn 7 = .ok (.invokevirtual 115, 3) := dk_182 0 115 (dk_at dksX2_weightOn_0 7 rfl rfl)
theorem dX2_weightOn_10 : decode cX2_weightOn 10 = .ok (.ireturn, 1) := dk_172 (dk_at dksX2_weightOn_0 10 rfl rfl)
abbrev cX2_lambda_weightOn_0 : ByteArray := prog_5_method_42_code
def yX2_lambda_weightOn_0 : MethodName := ⟨RX2, "lambda$weightOn$0", "(ILJumpHall$Jumper;)Z"⟩
def dkwX2_lambda_weightOn_0_0 : List UInt8 := [43, 26, 182, 0, 170, 172]
abbrev dktX2_lambda_weightOn_0_0 : List UInt8 := dkwX2_lambda_weightOn_0_0 ++ []
theorem dksX2_lambda_weightOn_0_0 : cX2_lambda_weightOn_0.data.toList.drop 0 = dktX2_lambda_weightOn_0_0 := by decide +kernel
theorem dX2_lambda_weightOn_0_0 : decode cX2_lambda_weightOn_0 0 = .ok (.aload_n 1, 1) := dk_43 (dk_at dksX2_lambda_weightOn_0_0 0 rfl rfl)
theorem dX2_lambda_weightOn_0_1 : decode cX2_lambda_weightOn_0 1 = .ok (.iload_n 0, 1) := dk_26 (dk_at dksX2_lambda_weightOn_0_0 1 rfl rfl)
theorem dX2_lambda_weightOn_0_2 : decode cX2_lambda_weightOn_0 2 = .ok (.invokevirtual 170, 3) := dk_182 0 170 (dk_at dksX2_lambda_weightOn_0_0 2 rfl rfl)
theorem dX2_lambda_weightOn_0_5 : decode cX2_lambda_weightOn_0 5 = .ok (.ireturn, 1) := dk_172 (dk_at dksX2_lambda_weightOn_0_0 5 rfl rfl)
abbrev cX2_weightOf : ByteArray := prog_5_method_7_code
def yX2_weightOf : MethodName := ⟨RX2, "weightOf", "(LJumpHall$Test;)I"⟩
def dkwX2_weightOf_2 : List UInt8 := [180, 0, 109, 167, 0, 4, 3, 96, 61, 167, 255, 213, 28, 172]
abbrev dktX2_weightOf_2 : List UInt8 := dkwX2_weightOf_2 ++ []
def dkwX2_weightOf_1 : List UInt8 := [185, 0, 48, 1, 0, 192, 0, 62, 58, 4, 28, 43, 25, 4, 185, 0, 103, 2, 0, 153, 0, 11, 25, 4]
abbrev dktX2_weightOf_1 : List UInt8 := dkwX2_weightOf_1 ++ dktX2_weightOf_2
def dkwX2_weightOf_0 : List UInt8 := [3, 61, 42, 180, 0, 18, 182, 0, 38, 78, 45, 185, 0, 42, 1, 0, 153, 0, 40, 45]
abbrev dktX2_weightOf_0 : List UInt8 := dkwX2_weightOf_0 ++ dktX2_weightOf_1
theorem dksX2_weightOf_0 : cX2_weightOf.data.toList.drop 0 = dktX2_weightOf_0 := by decide +kernel
theorem dksX2_weightOf_1 : cX2_weightOf.data.toList.drop 20 = dktX2_weightOf_1 := dk_seg dksX2_weightOf_0 20 rfl rfl
theorem dksX2_weightOf_2 : cX2_weightOf.data.toList.drop 44 = dktX2_weightOf_2 := dk_seg dksX2_weightOf_1 24 rfl rfl
theorem dX2_weightOf_0 : decode cX2_weightOf 0 = .ok (.iconst 0, 1) := dk_3 (dk_at dksX2_weightOf_0 0 rfl rfl)
theorem dX2_weightOf_1 : decode cX2_weightOf 1 = .ok (.istore_n 2, 1) := dk_61 (dk_at dksX2_weightOf_0 1 rfl rfl)
theorem dX2_weightOf_2 : decode cX2_weightOf 2 = .ok (.aload_n 0, 1) := dk_42 (dk_at dksX2_weightOf_0 2 rfl rfl)
theorem dX2_weightOf_3 : decode cX2_weightOf 3 = .ok (.getfield 18, 3) := dk_180 0 18 (dk_at dksX2_weightOf_0 3 rfl rfl)
theorem dX2_weightOf_6 : decode cX2_weightOf 6 = .ok (.invokevirtual 38, 3) := dk_182 0 38 (dk_at dksX2_weightOf_0 6 rfl rfl)
theorem dX2_weightOf_9 : decode cX2_weightOf 9 = .ok (.astore_n 3, 1) := dk_78 (dk_at dksX2_weightOf_0 9 rfl rfl)
theorem dX2_weightOf_10 : decode cX2_weightOf 10 = .ok (.aload_n 3, 1) := dk_45 (dk_at dksX2_weightOf_0 10 rfl rfl)
theorem dX2_weightOf_11 : decode cX2_weightOf 11 = .ok (.invokeinterface 42 1, 5) := by decide +kernel
theorem dX2_weightOf_16 : decode cX2_weightOf 16 = .ok (.ifCond .eq 40, 3) := dk_153 0 40 (dk_at dksX2_weightOf_0 16 rfl rfl)
theorem dX2_weightOf_19 : decode cX2_weightOf 19 = .ok (.aload_n 3, 1) := dk_45 (dk_at dksX2_weightOf_0 19 rfl rfl)
theorem dX2_weightOf_20 : decode cX2_weightOf 20 = .ok (.invokeinterface 48 1, 5) := by decide +kernel
theorem dX2_weightOf_25 : decode cX2_weightOf 25 = .ok (.checkcast 62, 3) := dk_192 0 62 (dk_at dksX2_weightOf_1 5 rfl rfl)
theorem dX2_weightOf_28 : decode cX2_weightOf 28 = .ok (.astore 4, 2) := dk_58 4 (dk_at dksX2_weightOf_1 8 rfl rfl)
theorem dX2_weightOf_30 : decode cX2_weightOf 30 = .ok (.iload_n 2, 1) := dk_28 (dk_at dksX2_weightOf_1 10 rfl rfl)
theorem dX2_weightOf_31 : decode cX2_weightOf 31 = .ok (.aload_n 1, 1) := dk_43 (dk_at dksX2_weightOf_1 11 rfl rfl)
theorem dX2_weightOf_32 : decode cX2_weightOf 32 = .ok (.aload 4, 2) := dk_25 4 (dk_at dksX2_weightOf_1 12 rfl rfl)
theorem dX2_weightOf_34 : decode cX2_weightOf 34 = .ok (.invokeinterface 103 2, 5) := by decide +kernel
theorem dX2_weightOf_39 : decode cX2_weightOf 39 = .ok (.ifCond .eq 11, 3) := dk_153 0 11 (dk_at dksX2_weightOf_1 19 rfl rfl)
theorem dX2_weightOf_42 : decode cX2_weightOf 42 = .ok (.aload 4, 2) := dk_25 4 (dk_at dksX2_weightOf_1 22 rfl rfl)
theorem dX2_weightOf_44 : decode cX2_weightOf 44 = .ok (.getfield 109, 3) := dk_180 0 109 (dk_at dksX2_weightOf_2 0 rfl rfl)
theorem dX2_weightOf_47 : decode cX2_weightOf 47 = .ok (.goto 4, 3) := dk_167 0 4 (dk_at dksX2_weightOf_2 3 rfl rfl)
theorem dX2_weightOf_50 : decode cX2_weightOf 50 = .ok (.iconst 0, 1) := dk_3 (dk_at dksX2_weightOf_2 6 rfl rfl)
theorem dX2_weightOf_51 : decode cX2_weightOf 51 = .ok (.iadd, 1) := dk_96 (dk_at dksX2_weightOf_2 7 rfl rfl)
theorem dX2_weightOf_52 : decode cX2_weightOf 52 = .ok (.istore_n 2, 1) := dk_61 (dk_at dksX2_weightOf_2 8 rfl rfl)
theorem dX2_weightOf_53 : decode cX2_weightOf 53 = .ok (.goto (-43), 3) := dk_167 255 213 (dk_at dksX2_weightOf_2 9 rfl rfl)
theorem dX2_weightOf_56 : decode cX2_weightOf 56 = .ok (.iload_n 2, 1) := dk_28 (dk_at dksX2_weightOf_2 12 rfl rfl)
theorem dX2_weightOf_57 : decode cX2_weightOf 57 = .ok (.ireturn, 1) := dk_172 (dk_at dksX2_weightOf_2 13 rfl rfl)
abbrev cX2_guardAt : ByteArray := prog_5_method_10_code
def yX2_guardAt : MethodName := ⟨RX2, "guardAt", "(I)I"⟩
def dkwX2_guardAt_0 : List UInt8 := [42, 180, 0, 24, 27, 184, 0, 119, 182, 0, 125, 172]
abbrev dktX2_guardAt_0 : List UInt8 := dkwX2_guardAt_0 ++ []
theorem dksX2_guardAt_0 : cX2_guardAt.data.toList.drop 0 = dktX2_guardAt_0 := by decide +kernel
theorem dX2_guardAt_0 : decode cX2_guardAt 0 = .ok (.aload_n 0, 1) := dk_42 (dk_at dksX2_guardAt_0 0 rfl rfl)
theorem dX2_guardAt_1 : decode cX2_guardAt 1 = .ok (.getfield 24, 3) := dk_180 0 24 (dk_at dksX2_guardAt_0 1 rfl rfl)
theorem dX2_guardAt_4 : decode cX2_guardAt 4 = .ok (.iload_n 1, 1) := dk_27 (dk_at dksX2_guardAt_0 4 rfl rfl)
theorem dX2_guardAt_5 : decode cX2_guardAt 5 = .ok (.invokestatic 119, 3) := dk_184 0 119 (dk_at dksX2_guardAt_0 5 rfl rfl)
theorem dX2_guardAt_8 : decode cX2_guardAt 8 = .ok (.invokevirtual 125, 3) := dk_182 0 125 (dk_at dksX2_guardAt_0 8 rfl rfl)
theorem dX2_guardAt_11 : decode cX2_guardAt 11 = .ok (.ireturn, 1) := dk_172 (dk_at dksX2_guardAt_0 11 rfl rfl)
abbrev cX2_lasts : ByteArray := prog_5_method_18_code
def yX2_lasts : MethodName := ⟨RX2, "lasts", "(I)I"⟩
def dkwX2_lasts_3 : List UInt8 := [44, 25, 6, 180, 0, 109, 182, 0, 174, 167, 255, 216, 132, 4, 1, 167, 255, 193, 21, 4, 172]
abbrev dktX2_lasts_3 : List UInt8 := dkwX2_lasts_3 ++ []
def dkwX2_lasts_2 : List UInt8 := [153, 0, 36, 25, 5, 185, 0, 48, 1, 0, 192, 0, 62, 58, 6, 25, 6, 27, 182, 0, 170, 153, 0, 12]
abbrev dktX2_lasts_2 : List UInt8 := dkwX2_lasts_2 ++ dktX2_lasts_3
def dkwX2_lasts_1 : List UInt8 := [44, 182, 0, 160, 29, 161, 0, 61, 42, 180, 0, 18, 182, 0, 38, 58, 5, 25, 5, 185, 0, 42, 1, 0]
abbrev dktX2_lasts_1 : List UInt8 := dkwX2_lasts_1 ++ dktX2_lasts_2
def dkwX2_lasts_0 : List UInt8 := [42, 180, 0, 12, 27, 182, 0, 144, 192, 0, 52, 182, 0, 54, 77, 42, 27, 182, 0, 166, 62, 3, 54, 4]
abbrev dktX2_lasts_0 : List UInt8 := dkwX2_lasts_0 ++ dktX2_lasts_1
theorem dksX2_lasts_0 : cX2_lasts.data.toList.drop 0 = dktX2_lasts_0 := by decide +kernel
theorem dksX2_lasts_1 : cX2_lasts.data.toList.drop 24 = dktX2_lasts_1 := dk_seg dksX2_lasts_0 24 rfl rfl
theorem dksX2_lasts_2 : cX2_lasts.data.toList.drop 48 = dktX2_lasts_2 := dk_seg dksX2_lasts_1 24 rfl rfl
theorem dksX2_lasts_3 : cX2_lasts.data.toList.drop 72 = dktX2_lasts_3 := dk_seg dksX2_lasts_2 24 rfl rfl
theorem dX2_lasts_0 : decode cX2_lasts 0 = .ok (.aload_n 0, 1) := dk_42 (dk_at dksX2_lasts_0 0 rfl rfl)
theorem dX2_lasts_1 : decode cX2_lasts 1 = .ok (.getfield 12, 3) := dk_180 0 12 (dk_at dksX2_lasts_0 1 rfl rfl)
theorem dX2_lasts_4 : decode cX2_lasts 4 = .ok (.iload_n 1, 1) := dk_27 (dk_at dksX2_lasts_0 4 rfl rfl)
theorem dX2_lasts_5 : decode cX2_lasts 5 = .ok (.invokevirtual 144, 3) := dk_182 0 144 (dk_at dksX2_lasts_0 5 rfl rfl)
theorem dX2_lasts_8 : decode cX2_lasts 8 = .ok (.checkcast 52, 3) := dk_192 0 52 (dk_at dksX2_lasts_0 8 rfl rfl)
theorem dX2_lasts_11 : decode cX2_lasts 11 = .ok (.invokevirtual 54, 3) := dk_182 0 54 (dk_at dksX2_lasts_0 11 rfl rfl)
theorem dX2_lasts_14 : decode cX2_lasts 14 = .ok (.astore_n 2, 1) := dk_77 (dk_at dksX2_lasts_0 14 rfl rfl)
theorem dX2_lasts_15 : decode cX2_lasts 15 = .ok (.aload_n 0, 1) := dk_42 (dk_at dksX2_lasts_0 15 rfl rfl)
theorem dX2_lasts_16 : decode cX2_lasts 16 = .ok (.iload_n 1, 1) := dk_27 (dk_at dksX2_lasts_0 16 rfl rfl)
theorem dX2_lasts_17 : decode cX2_lasts 17 = .ok (.invokevirtual 166, 3) := dk_182 0 166 (dk_at dksX2_lasts_0 17 rfl rfl)
theorem dX2_lasts_20 : decode cX2_lasts 20 = .ok (.istore_n 3, 1) := dk_62 (dk_at dksX2_lasts_0 20 rfl rfl)
theorem dX2_lasts_21 : decode cX2_lasts 21 = .ok (.iconst 0, 1) := dk_3 (dk_at dksX2_lasts_0 21 rfl rfl)
theorem dX2_lasts_22 : decode cX2_lasts 22 = .ok (.istore 4, 2) := dk_54 4 (dk_at dksX2_lasts_0 22 rfl rfl)
theorem dX2_lasts_24 : decode cX2_lasts 24 = .ok (.aload_n 2, 1) := dk_44 (dk_at dksX2_lasts_1 0 rfl rfl)
theorem dX2_lasts_25 : decode cX2_lasts 25 = .ok (.invokevirtual 160, 3) := dk_182 0 160 (dk_at dksX2_lasts_1 1 rfl rfl)
theorem dX2_lasts_28 : decode cX2_lasts 28 = .ok (.iload_n 3, 1) := dk_29 (dk_at dksX2_lasts_1 4 rfl rfl)
theorem dX2_lasts_29 : decode cX2_lasts 29 = .ok (.if_icmp .lt 61, 3) := dk_161 0 61 (dk_at dksX2_lasts_1 5 rfl rfl)
theorem dX2_lasts_32 : decode cX2_lasts 32 = .ok (.aload_n 0, 1) := dk_42 (dk_at dksX2_lasts_1 8 rfl rfl)
theorem dX2_lasts_33 : decode cX2_lasts 33 = .ok (.getfield 18, 3) := dk_180 0 18 (dk_at dksX2_lasts_1 9 rfl rfl)
theorem dX2_lasts_36 : decode cX2_lasts 36 = .ok (.invokevirtual 38, 3) := dk_182 0 38 (dk_at dksX2_lasts_1 12 rfl rfl)
theorem dX2_lasts_39 : decode cX2_lasts 39 = .ok (.astore 5, 2) := dk_58 5 (dk_at dksX2_lasts_1 15 rfl rfl)
theorem dX2_lasts_41 : decode cX2_lasts 41 = .ok (.aload 5, 2) := dk_25 5 (dk_at dksX2_lasts_1 17 rfl rfl)
theorem dX2_lasts_43 : decode cX2_lasts 43 = .ok (.invokeinterface 42 1, 5) := by decide +kernel
theorem dX2_lasts_48 : decode cX2_lasts 48 = .ok (.ifCond .eq 36, 3) := dk_153 0 36 (dk_at dksX2_lasts_2 0 rfl rfl)
theorem dX2_lasts_51 : decode cX2_lasts 51 = .ok (.aload 5, 2) := dk_25 5 (dk_at dksX2_lasts_2 3 rfl rfl)
theorem dX2_lasts_53 : decode cX2_lasts 53 = .ok (.invokeinterface 48 1, 5) := by decide +kernel
theorem dX2_lasts_58 : decode cX2_lasts 58 = .ok (.checkcast 62, 3) := dk_192 0 62 (dk_at dksX2_lasts_2 10 rfl rfl)
theorem dX2_lasts_61 : decode cX2_lasts 61 = .ok (.astore 6, 2) := dk_58 6 (dk_at dksX2_lasts_2 13 rfl rfl)
theorem dX2_lasts_63 : decode cX2_lasts 63 = .ok (.aload 6, 2) := dk_25 6 (dk_at dksX2_lasts_2 15 rfl rfl)
theorem dX2_lasts_65 : decode cX2_lasts 65 = .ok (.iload_n 1, 1) := dk_27 (dk_at dksX2_lasts_2 17 rfl rfl)
theorem dX2_lasts_66 : decode cX2_lasts 66 = .ok (.invokevirtual 170, 3) := dk_182 0 170 (dk_at dksX2_lasts_2 18 rfl rfl)
theorem dX2_lasts_69 : decode cX2_lasts 69 = .ok (.ifCond .eq 12, 3) := dk_153 0 12 (dk_at dksX2_lasts_2 21 rfl rfl)
theorem dX2_lasts_72 : decode cX2_lasts 72 = .ok (.aload_n 2, 1) := dk_44 (dk_at dksX2_lasts_3 0 rfl rfl)
theorem dX2_lasts_73 : decode cX2_lasts 73 = .ok (.aload 6, 2) := dk_25 6 (dk_at dksX2_lasts_3 1 rfl rfl)
theorem dX2_lasts_75 : decode cX2_lasts 75 = .ok (.getfield 109, 3) := dk_180 0 109 (dk_at dksX2_lasts_3 3 rfl rfl)
theorem dX2_lasts_78 : decode cX2_lasts 78 = .ok (.invokevirtual 174, 3) := dk_182 0 174 (dk_at dksX2_lasts_3 6 rfl rfl)
theorem dX2_lasts_81 : decode cX2_lasts 81 = .ok (.goto (-40), 3) := dk_167 255 216 (dk_at dksX2_lasts_3 9 rfl rfl)
theorem dX2_lasts_84 : decode cX2_lasts 84 = .ok (.iinc 4 1, 3) := dk_132 4 1 (dk_at dksX2_lasts_3 12 rfl rfl)
theorem dX2_lasts_87 : decode cX2_lasts 87 = .ok (.goto (-63), 3) := dk_167 255 193 (dk_at dksX2_lasts_3 15 rfl rfl)
theorem dX2_lasts_90 : decode cX2_lasts 90 = .ok (.iload 4, 2) := dk_21 4 (dk_at dksX2_lasts_3 18 rfl rfl)
theorem dX2_lasts_92 : decode cX2_lasts 92 = .ok (.ireturn, 1) := dk_172 (dk_at dksX2_lasts_3 20 rfl rfl)
abbrev cX2_bestMat : ByteArray := prog_5_method_17_code
def yX2_bestMat : MethodName := ⟨RX2, "bestMat", "()I"⟩
def dkwX2_bestMat_5 : List UInt8 := [27, 172]
abbrev dktX2_bestMat_5 : List UInt8 := dkwX2_bestMat_5 ++ []
def dkwX2_bestMat_4 : List UInt8 := [3, 54, 4, 29, 157, 0, 8, 21, 4, 153, 0, 7, 28, 167, 0, 4, 27, 60, 132, 2, 1, 167, 255, 146]
abbrev dktX2_bestMat_4 : List UInt8 := dkwX2_bestMat_4 ++ dktX2_bestMat_5
def dkwX2_bestMat_3 : List UInt8 := [182, 0, 163, 42, 180, 0, 12, 27, 182, 0, 144, 192, 0, 52, 182, 0, 163, 162, 0, 7, 4, 167, 0, 4]
abbrev dktX2_bestMat_3 : List UInt8 := dkwX2_bestMat_3 ++ dktX2_bestMat_4
def dkwX2_bestMat_2 : List UInt8 := [192, 0, 52, 182, 0, 160, 100, 62, 29, 154, 0, 38, 42, 180, 0, 12, 28, 182, 0, 144, 192, 0, 52]
abbrev dktX2_bestMat_2 : List UInt8 := dkwX2_bestMat_2 ++ dktX2_bestMat_3
def dkwX2_bestMat_1 : List UInt8 := [42, 180, 0, 12, 28, 182, 0, 144, 192, 0, 52, 182, 0, 160, 42, 180, 0, 12, 27, 182, 0, 144]
abbrev dktX2_bestMat_1 : List UInt8 := dkwX2_bestMat_1 ++ dktX2_bestMat_2
def dkwX2_bestMat_0 : List UInt8 := [2, 60, 3, 61, 28, 42, 180, 0, 12, 182, 0, 95, 162, 0, 105, 27, 2, 160, 0, 7, 4, 167, 0, 32]
abbrev dktX2_bestMat_0 : List UInt8 := dkwX2_bestMat_0 ++ dktX2_bestMat_1
theorem dksX2_bestMat_0 : cX2_bestMat.data.toList.drop 0 = dktX2_bestMat_0 := by decide +kernel
theorem dksX2_bestMat_1 : cX2_bestMat.data.toList.drop 24 = dktX2_bestMat_1 := dk_seg dksX2_bestMat_0 24 rfl rfl
theorem dksX2_bestMat_2 : cX2_bestMat.data.toList.drop 46 = dktX2_bestMat_2 := dk_seg dksX2_bestMat_1 22 rfl rfl
theorem dksX2_bestMat_3 : cX2_bestMat.data.toList.drop 69 = dktX2_bestMat_3 := dk_seg dksX2_bestMat_2 23 rfl rfl
theorem dksX2_bestMat_4 : cX2_bestMat.data.toList.drop 93 = dktX2_bestMat_4 := dk_seg dksX2_bestMat_3 24 rfl rfl
theorem dksX2_bestMat_5 : cX2_bestMat.data.toList.drop 117 = dktX2_bestMat_5 := dk_seg dksX2_bestMat_4 24 rfl rfl
theorem dX2_bestMat_0 : decode cX2_bestMat 0 = .ok (.iconst (-1), 1) := dk_2 (dk_at dksX2_bestMat_0 0 rfl rfl)
theorem dX2_bestMat_1 : decode cX2_bestMat 1 = .ok (.istore_n 1, 1) := dk_60 (dk_at dksX2_bestMat_0 1 rfl rfl)
theorem dX2_bestMat_2 : decode cX2_bestMat 2 = .ok (.iconst 0, 1) := dk_3 (dk_at dksX2_bestMat_0 2 rfl rfl)
theorem dX2_bestMat_3 : decode cX2_bestMat 3 = .ok (.istore_n 2, 1) := dk_61 (dk_at dksX2_bestMat_0 3 rfl rfl)
theorem dX2_bestMat_4 : decode cX2_bestMat 4 = .ok (.iload_n 2, 1) := dk_28 (dk_at dksX2_bestMat_0 4 rfl rfl)
theorem dX2_bestMat_5 : decode cX2_bestMat 5 = .ok (.aload_n 0, 1) := dk_42 (dk_at dksX2_bestMat_0 5 rfl rfl)
theorem dX2_bestMat_6 : decode cX2_bestMat 6 = .ok (.getfield 12, 3) := dk_180 0 12 (dk_at dksX2_bestMat_0 6 rfl rfl)
theorem dX2_bestMat_9 : decode cX2_bestMat 9 = .ok (.invokevirtual 95, 3) := dk_182 0 95 (dk_at dksX2_bestMat_0 9 rfl rfl)
theorem dX2_bestMat_12 : decode cX2_bestMat 12 = .ok (.if_icmp .ge 105, 3) := dk_162 0 105 (dk_at dksX2_bestMat_0 12 rfl rfl)
theorem dX2_bestMat_15 : decode cX2_bestMat 15 = .ok (.iload_n 1, 1) := dk_27 (dk_at dksX2_bestMat_0 15 rfl rfl)
theorem dX2_bestMat_16 : decode cX2_bestMat 16 = .ok (.iconst (-1), 1) := dk_2 (dk_at dksX2_bestMat_0 16 rfl rfl)
theorem dX2_bestMat_17 : decode cX2_bestMat 17 = .ok (.if_icmp .ne 7, 3) := dk_160 0 7 (dk_at dksX2_bestMat_0 17 rfl rfl)
theorem dX2_bestMat_20 : decode cX2_bestMat 20 = .ok (.iconst 1, 1) := dk_4 (dk_at dksX2_bestMat_0 20 rfl rfl)
theorem dX2_bestMat_21 : decode cX2_bestMat 21 = .ok (.goto 32, 3) := dk_167 0 32 (dk_at dksX2_bestMat_0 21 rfl rfl)
theorem dX2_bestMat_24 : decode cX2_bestMat 24 = .ok (.aload_n 0, 1) := dk_42 (dk_at dksX2_bestMat_1 0 rfl rfl)
theorem dX2_bestMat_25 : decode cX2_bestMat 25 = .ok (.getfield 12, 3) := dk_180 0 12 (dk_at dksX2_bestMat_1 1 rfl rfl)
theorem dX2_bestMat_28 : decode cX2_bestMat 28 = .ok (.iload_n 2, 1) := dk_28 (dk_at dksX2_bestMat_1 4 rfl rfl)
theorem dX2_bestMat_29 : decode cX2_bestMat 29 = .ok (.invokevirtual 144, 3) := dk_182 0 144 (dk_at dksX2_bestMat_1 5 rfl rfl)
theorem dX2_bestMat_32 : decode cX2_bestMat 32 = .ok (.checkcast 52, 3) := dk_192 0 52 (dk_at dksX2_bestMat_1 8 rfl rfl)
theorem dX2_bestMat_35 : decode cX2_bestMat 35 = .ok (.invokevirtual 160, 3) := dk_182 0 160 (dk_at dksX2_bestMat_1 11 rfl rfl)
theorem dX2_bestMat_38 : decode cX2_bestMat 38 = .ok (.aload_n 0, 1) := dk_42 (dk_at dksX2_bestMat_1 14 rfl rfl)
theorem dX2_bestMat_39 : decode cX2_bestMat 39 = .ok (.getfield 12, 3) := dk_180 0 12 (dk_at dksX2_bestMat_1 15 rfl rfl)
theorem dX2_bestMat_42 : decode cX2_bestMat 42 = .ok (.iload_n 1, 1) := dk_27 (dk_at dksX2_bestMat_1 18 rfl rfl)
theorem dX2_bestMat_43 : decode cX2_bestMat 43 = .ok (.invokevirtual 144, 3) := dk_182 0 144 (dk_at dksX2_bestMat_1 19 rfl rfl)
theorem dX2_bestMat_46 : decode cX2_bestMat 46 = .ok (.checkcast 52, 3) := dk_192 0 52 (dk_at dksX2_bestMat_2 0 rfl rfl)
theorem dX2_bestMat_49 : decode cX2_bestMat 49 = .ok (.invokevirtual 160, 3) := dk_182 0 160 (dk_at dksX2_bestMat_2 3 rfl rfl)
theorem dX2_bestMat_52 : decode cX2_bestMat 52 = .ok (.isub, 1) := dk_100 (dk_at dksX2_bestMat_2 6 rfl rfl)
theorem dX2_bestMat_53 : decode cX2_bestMat 53 = .ok (.istore_n 3, 1) := dk_62 (dk_at dksX2_bestMat_2 7 rfl rfl)
theorem dX2_bestMat_54 : decode cX2_bestMat 54 = .ok (.iload_n 3, 1) := dk_29 (dk_at dksX2_bestMat_2 8 rfl rfl)
theorem dX2_bestMat_55 : decode cX2_bestMat 55 = .ok (.ifCond .ne 38, 3) := dk_154 0 38 (dk_at dksX2_bestMat_2 9 rfl rfl)
theorem dX2_bestMat_58 : decode cX2_bestMat 58 = .ok (.aload_n 0, 1) := dk_42 (dk_at dksX2_bestMat_2 12 rfl rfl)
theorem dX2_bestMat_59 : decode cX2_bestMat 59 = .ok (.getfield 12, 3) := dk_180 0 12 (dk_at dksX2_bestMat_2 13 rfl rfl)
theorem dX2_bestMat_62 : decode cX2_bestMat 62 = .ok (.iload_n 2, 1) := dk_28 (dk_at dksX2_bestMat_2 16 rfl rfl)
theorem dX2_bestMat_63 : decode cX2_bestMat 63 = .ok (.invokevirtual 144, 3) := dk_182 0 144 (dk_at dksX2_bestMat_2 17 rfl rfl)
theorem dX2_bestMat_66 : decode cX2_bestMat 66 = .ok (.checkcast 52, 3) := dk_192 0 52 (dk_at dksX2_bestMat_2 20 rfl rfl)
theorem dX2_bestMat_69 : decode cX2_bestMat 69 = .ok (.invokevirtual 163, 3) := dk_182 0 163 (dk_at dksX2_bestMat_3 0 rfl rfl)
theorem dX2_bestMat_72 : decode cX2_bestMat 72 = .ok (.aload_n 0, 1) := dk_42 (dk_at dksX2_bestMat_3 3 rfl rfl)
theorem dX2_bestMat_73 : decode cX2_bestMat 73 = .ok (.getfield 12, 3) := dk_180 0 12 (dk_at dksX2_bestMat_3 4 rfl rfl)
theorem dX2_bestMat_76 : decode cX2_bestMat 76 = .ok (.iload_n 1, 1) := dk_27 (dk_at dksX2_bestMat_3 7 rfl rfl)
theorem dX2_bestMat_77 : decode cX2_bestMat 77 = .ok (.invokevirtual 144, 3) := dk_182 0 144 (dk_at dksX2_bestMat_3 8 rfl rfl)
theorem dX2_bestMat_80 : decode cX2_bestMat 80 = .ok (.checkcast 52, 3) := dk_192 0 52 (dk_at dksX2_bestMat_3 11 rfl rfl)
theorem dX2_bestMat_83 : decode cX2_bestMat 83 = .ok (.invokevirtual 163, 3) := dk_182 0 163 (dk_at dksX2_bestMat_3 14 rfl rfl)
theorem dX2_bestMat_86 : decode cX2_bestMat 86 = .ok (.if_icmp .ge 7, 3) := dk_162 0 7 (dk_at dksX2_bestMat_3 17 rfl rfl)
theorem dX2_bestMat_89 : decode cX2_bestMat 89 = .ok (.iconst 1, 1) := dk_4 (dk_at dksX2_bestMat_3 20 rfl rfl)
theorem dX2_bestMat_90 : decode cX2_bestMat 90 = .ok (.goto 4, 3) := dk_167 0 4 (dk_at dksX2_bestMat_3 21 rfl rfl)
theorem dX2_bestMat_93 : decode cX2_bestMat 93 = .ok (.iconst 0, 1) := dk_3 (dk_at dksX2_bestMat_4 0 rfl rfl)
theorem dX2_bestMat_94 : decode cX2_bestMat 94 = .ok (.istore 4, 2) := dk_54 4 (dk_at dksX2_bestMat_4 1 rfl rfl)
theorem dX2_bestMat_96 : decode cX2_bestMat 96 = .ok (.iload_n 3, 1) := dk_29 (dk_at dksX2_bestMat_4 3 rfl rfl)
theorem dX2_bestMat_97 : decode cX2_bestMat 97 = .ok (.ifCond .gt 8, 3) := dk_157 0 8 (dk_at dksX2_bestMat_4 4 rfl rfl)
theorem dX2_bestMat_100 : decode cX2_bestMat 100 = .ok (.iload 4, 2) := dk_21 4 (dk_at dksX2_bestMat_4 7 rfl rfl)
theorem dX2_bestMat_102 : decode cX2_bestMat 102 = .ok (.ifCond .eq 7, 3) := dk_153 0 7 (dk_at dksX2_bestMat_4 9 rfl rfl)
theorem dX2_bestMat_105 : decode cX2_bestMat 105 = .ok (.iload_n 2, 1) := dk_28 (dk_at dksX2_bestMat_4 12 rfl rfl)
theorem dX2_bestMat_106 : decode cX2_bestMat 106 = .ok (.goto 4, 3) := dk_167 0 4 (dk_at dksX2_bestMat_4 13 rfl rfl)
theorem dX2_bestMat_109 : decode cX2_bestMat 109 = .ok (.iload_n 1, 1) := dk_27 (dk_at dksX2_bestMat_4 16 rfl rfl)
theorem dX2_bestMat_110 : decode cX2_bestMat 110 = .ok (.istore_n 1, 1) := dk_60 (dk_at dksX2_bestMat_4 17 rfl rfl)
theorem dX2_bestMat_111 : decode cX2_bestMat 111 = .ok (.iinc 2 1, 3) := dk_132 2 1 (dk_at dksX2_bestMat_4 18 rfl rfl)
theorem dX2_bestMat_114 : decode cX2_bestMat 114 = .ok (.goto (-110), 3) := dk_167 255 146 (dk_at dksX2_bestMat_4 21 rfl rfl)
theorem dX2_bestMat_117 : decode cX2_bestMat 117 = .ok (.iload_n 1, 1) := dk_27 (dk_at dksX2_bestMat_5 0 rfl rfl)
theorem dX2_bestMat_118 : decode cX2_bestMat 118 = .ok (.ireturn, 1) := dk_172 (dk_at dksX2_bestMat_5 1 rfl rfl)
abbrev cX2_addJumper : ByteArray := prog_5_method_19_code
def yX2_addJumper : MethodName := ⟨RX2, "addJumper", "(III)I"⟩
def dkwX2_addJumper_2 : List UInt8 := [42, 180, 0, 18, 182, 0, 95, 4, 100, 172]
abbrev dktX2_addJumper_2 : List UInt8 := dkwX2_addJumper_2 ++ []
def dkwX2_addJumper_1 : List UInt8 := [180, 0, 18, 187, 0, 62, 89, 42, 180, 0, 18, 182, 0, 95, 27, 28, 29, 183, 0, 178, 182, 0, 58, 87]
abbrev dktX2_addJumper_1 : List UInt8 := dkwX2_addJumper_1 ++ dktX2_addJumper_2
def dkwX2_addJumper_0 : List UInt8 := [42, 180, 0, 18, 182, 0, 95, 16, 12, 160, 0, 7, 4, 167, 0, 4, 3, 4, 16, 12, 184, 0, 139, 42]
abbrev dktX2_addJumper_0 : List UInt8 := dkwX2_addJumper_0 ++ dktX2_addJumper_1
theorem dksX2_addJumper_0 : cX2_addJumper.data.toList.drop 0 = dktX2_addJumper_0 := by decide +kernel
theorem dksX2_addJumper_1 : cX2_addJumper.data.toList.drop 24 = dktX2_addJumper_1 := dk_seg dksX2_addJumper_0 24 rfl rfl
theorem dksX2_addJumper_2 : cX2_addJumper.data.toList.drop 48 = dktX2_addJumper_2 := dk_seg dksX2_addJumper_1 24 rfl rfl
theorem dX2_addJumper_0 : decode cX2_addJumper 0 = .ok (.aload_n 0, 1) := dk_42 (dk_at dksX2_addJumper_0 0 rfl rfl)
theorem dX2_addJumper_1 : decode cX2_addJumper 1 = .ok (.getfield 18, 3) := dk_180 0 18 (dk_at dksX2_addJumper_0 1 rfl rfl)
theorem dX2_addJumper_4 : decode cX2_addJumper 4 = .ok (.invokevirtual 95, 3) := dk_182 0 95 (dk_at dksX2_addJumper_0 4 rfl rfl)
theorem dX2_addJumper_7 : decode cX2_addJumper 7 = .ok (.bipush 12, 2) := dk_16 12 (dk_at dksX2_addJumper_0 7 rfl rfl)
theorem dX2_addJumper_9 : decode cX2_addJumper 9 = .ok (.if_icmp .ne 7, 3) := dk_160 0 7 (dk_at dksX2_addJumper_0 9 rfl rfl)
theorem dX2_addJumper_12 : decode cX2_addJumper 12 = .ok (.iconst 1, 1) := dk_4 (dk_at dksX2_addJumper_0 12 rfl rfl)
theorem dX2_addJumper_13 : decode cX2_addJumper 13 = .ok (.goto 4, 3) := dk_167 0 4 (dk_at dksX2_addJumper_0 13 rfl rfl)
theorem dX2_addJumper_16 : decode cX2_addJumper 16 = .ok (.iconst 0, 1) := dk_3 (dk_at dksX2_addJumper_0 16 rfl rfl)
theorem dX2_addJumper_17 : decode cX2_addJumper 17 = .ok (.iconst 1, 1) := dk_4 (dk_at dksX2_addJumper_0 17 rfl rfl)
theorem dX2_addJumper_18 : decode cX2_addJumper 18 = .ok (.bipush 12, 2) := dk_16 12 (dk_at dksX2_addJumper_0 18 rfl rfl)
theorem dX2_addJumper_20 : decode cX2_addJumper 20 = .ok (.invokestatic 139, 3) := dk_184 0 139 (dk_at dksX2_addJumper_0 20 rfl rfl)
theorem dX2_addJumper_23 : decode cX2_addJumper 23 = .ok (.aload_n 0, 1) := dk_42 (dk_at dksX2_addJumper_0 23 rfl rfl)
theorem dX2_addJumper_24 : decode cX2_addJumper 24 = .ok (.getfield 18, 3) := dk_180 0 18 (dk_at dksX2_addJumper_1 0 rfl rfl)
theorem dX2_addJumper_27 : decode cX2_addJumper 27 = .ok (.new 62, 3) := dk_187 0 62 (dk_at dksX2_addJumper_1 3 rfl rfl)
theorem dX2_addJumper_30 : decode cX2_addJumper 30 = .ok (.dup, 1) := dk_89 (dk_at dksX2_addJumper_1 6 rfl rfl)
theorem dX2_addJumper_31 : decode cX2_addJumper 31 = .ok (.aload_n 0, 1) := dk_42 (dk_at dksX2_addJumper_1 7 rfl rfl)
theorem dX2_addJumper_32 : decode cX2_addJumper 32 = .ok (.getfield 18, 3) := dk_180 0 18 (dk_at dksX2_addJumper_1 8 rfl rfl)
theorem dX2_addJumper_35 : decode cX2_addJumper 35 = .ok (.invokevirtual 95, 3) := dk_182 0 95 (dk_at dksX2_addJumper_1 11 rfl rfl)
theorem dX2_addJumper_38 : decode cX2_addJumper 38 = .ok (.iload_n 1, 1) := dk_27 (dk_at dksX2_addJumper_1 14 rfl rfl)
theorem dX2_addJumper_39 : decode cX2_addJumper 39 = .ok (.iload_n 2, 1) := dk_28 (dk_at dksX2_addJumper_1 15 rfl rfl)
theorem dX2_addJumper_40 : decode cX2_addJumper 40 = .ok (.iload_n 3, 1) := dk_29 (dk_at dksX2_addJumper_1 16 rfl rfl)
theorem dX2_addJumper_41 : decode cX2_addJumper 41 = .ok (.invokespecial 178, 3) := dk_183 0 178 (dk_at dksX2_addJumper_1 17 rfl rfl)
theorem dX2_addJumper_44 : decode cX2_addJumper 44 = .ok (.invokevirtual 58, 3) := dk_182 0 58 (dk_at dksX2_addJumper_1 20 rfl rfl)
theorem dX2_addJumper_47 : decode cX2_addJumper 47 = .ok (.pop, 1) := dk_87 (dk_at dksX2_addJumper_1 23 rfl rfl)
theorem dX2_addJumper_48 : decode cX2_addJumper 48 = .ok (.aload_n 0, 1) := dk_42 (dk_at dksX2_addJumper_2 0 rfl rfl)
theorem dX2_addJumper_49 : decode cX2_addJumper 49 = .ok (.getfield 18, 3) := dk_180 0 18 (dk_at dksX2_addJumper_2 1 rfl rfl)
theorem dX2_addJumper_52 : decode cX2_addJumper 52 = .ok (.invokevirtual 95, 3) := dk_182 0 95 (dk_at dksX2_addJumper_2 4 rfl rfl)
theorem dX2_addJumper_55 : decode cX2_addJumper 55 = .ok (.iconst 1, 1) := dk_4 (dk_at dksX2_addJumper_2 7 rfl rfl)
theorem dX2_addJumper_56 : decode cX2_addJumper 56 = .ok (.isub, 1) := dk_100 (dk_at dksX2_addJumper_2 8 rfl rfl)
theorem dX2_addJumper_57 : decode cX2_addJumper 57 = .ok (.ireturn, 1) := dk_172 (dk_at dksX2_addJumper_2 9 rfl rfl)
abbrev cX2_isJumper : ByteArray := prog_5_method_4_code
def yX2_isJumper : MethodName := ⟨RX2, "isJumper", "(I)Z"⟩
def dkwX2_isJumper_0 : List UInt8 := [27, 3, 42, 180, 0, 18, 182, 0, 95, 4, 100, 184, 0, 99, 172]
abbrev dktX2_isJumper_0 : List UInt8 := dkwX2_isJumper_0 ++ []
theorem dksX2_isJumper_0 : cX2_isJumper.data.toList.drop 0 = dktX2_isJumper_0 := by decide +kernel
theorem dX2_isJumper_0 : decode cX2_isJumper 0 = .ok (.iload_n 1, 1) := dk_27 (dk_at dksX2_isJumper_0 0 rfl rfl)
theorem dX2_isJumper_1 : decode cX2_isJumper 1 = .ok (.iconst 0, 1) := dk_3 (dk_at dksX2_isJumper_0 1 rfl rfl)
theorem dX2_isJumper_2 : decode cX2_isJumper 2 = .ok (.aload_n 0, 1) := dk_42 (dk_at dksX2_isJumper_0 2 rfl rfl)
theorem dX2_isJumper_3 : decode cX2_isJumper 3 = .ok (.getfield 18, 3) := dk_180 0 18 (dk_at dksX2_isJumper_0 3 rfl rfl)
theorem dX2_isJumper_6 : decode cX2_isJumper 6 = .ok (.invokevirtual 95, 3) := dk_182 0 95 (dk_at dksX2_isJumper_0 6 rfl rfl)
theorem dX2_isJumper_9 : decode cX2_isJumper 9 = .ok (.iconst 1, 1) := dk_4 (dk_at dksX2_isJumper_0 9 rfl rfl)
theorem dX2_isJumper_10 : decode cX2_isJumper 10 = .ok (.isub, 1) := dk_100 (dk_at dksX2_isJumper_0 10 rfl rfl)
theorem dX2_isJumper_11 : decode cX2_isJumper 11 = .ok (.invokestatic 99, 3) := dk_184 0 99 (dk_at dksX2_isJumper_0 11 rfl rfl)
theorem dX2_isJumper_14 : decode cX2_isJumper 14 = .ok (.ireturn, 1) := dk_172 (dk_at dksX2_isJumper_0 14 rfl rfl)
abbrev cX2_up : ByteArray := prog_5_method_22_code
def yX2_up : MethodName := ⟨RX2, "up", "(II)I"⟩
def dkwX2_up_2 : List UInt8 := [42, 180, 0, 12, 28, 182, 0, 144, 192, 0, 52, 182, 0, 160, 42, 28, 182, 0, 166, 100, 172]
abbrev dktX2_up_2 : List UInt8 := dkwX2_up_2 ++ []
def dkwX2_up_1 : List UInt8 := [28, 181, 0, 214, 42, 180, 0, 12, 28, 182, 0, 144, 192, 0, 52, 89, 180, 0, 217, 4, 96, 181, 0, 217]
abbrev dktX2_up_1 : List UInt8 := dkwX2_up_1 ++ dktX2_up_2
def dkwX2_up_0 : List UInt8 := [42, 180, 0, 18, 27, 182, 0, 144, 192, 0, 62, 78, 42, 45, 28, 182, 0, 211, 45, 4, 181, 0, 190, 45]
abbrev dktX2_up_0 : List UInt8 := dkwX2_up_0 ++ dktX2_up_1
theorem dksX2_up_0 : cX2_up.data.toList.drop 0 = dktX2_up_0 := by decide +kernel
theorem dksX2_up_1 : cX2_up.data.toList.drop 24 = dktX2_up_1 := dk_seg dksX2_up_0 24 rfl rfl
theorem dksX2_up_2 : cX2_up.data.toList.drop 48 = dktX2_up_2 := dk_seg dksX2_up_1 24 rfl rfl
theorem dX2_up_0 : decode cX2_up 0 = .ok (.aload_n 0, 1) := dk_42 (dk_at dksX2_up_0 0 rfl rfl)
theorem dX2_up_1 : decode cX2_up 1 = .ok (.getfield 18, 3) := dk_180 0 18 (dk_at dksX2_up_0 1 rfl rfl)
theorem dX2_up_4 : decode cX2_up 4 = .ok (.iload_n 1, 1) := dk_27 (dk_at dksX2_up_0 4 rfl rfl)
theorem dX2_up_5 : decode cX2_up 5 = .ok (.invokevirtual 144, 3) := dk_182 0 144 (dk_at dksX2_up_0 5 rfl rfl)
theorem dX2_up_8 : decode cX2_up 8 = .ok (.checkcast 62, 3) := dk_192 0 62 (dk_at dksX2_up_0 8 rfl rfl)
theorem dX2_up_11 : decode cX2_up 11 = .ok (.astore_n 3, 1) := dk_78 (dk_at dksX2_up_0 11 rfl rfl)
theorem dX2_up_12 : decode cX2_up 12 = .ok (.aload_n 0, 1) := dk_42 (dk_at dksX2_up_0 12 rfl rfl)
theorem dX2_up_13 : decode cX2_up 13 = .ok (.aload_n 3, 1) := dk_45 (dk_at dksX2_up_0 13 rfl rfl)
theorem dX2_up_14 : decode cX2_up 14 = .ok (.iload_n 2, 1) := dk_28 (dk_at dksX2_up_0 14 rfl rfl)
theorem dX2_up_15 : decode cX2_up 15 = .ok (.invokevirtual 211, 3) := dk_182 0 211 (dk_at dksX2_up_0 15 rfl rfl)
theorem dX2_up_18 : decode cX2_up 18 = .ok (.aload_n 3, 1) := dk_45 (dk_at dksX2_up_0 18 rfl rfl)
theorem dX2_up_19 : decode cX2_up 19 = .ok (.iconst 1, 1) := dk_4 (dk_at dksX2_up_0 19 rfl rfl)
theorem dX2_up_20 : decode cX2_up 20 = .ok (.putfield 190, 3) := dk_181 0 190 (dk_at dksX2_up_0 20 rfl rfl)
theorem dX2_up_23 : decode cX2_up 23 = .ok (.aload_n 3, 1) := dk_45 (dk_at dksX2_up_0 23 rfl rfl)
theorem dX2_up_24 : decode cX2_up 24 = .ok (.iload_n 2, 1) := dk_28 (dk_at dksX2_up_1 0 rfl rfl)
theorem dX2_up_25 : decode cX2_up 25 = .ok (.putfield 214, 3) := dk_181 0 214 (dk_at dksX2_up_1 1 rfl rfl)
theorem dX2_up_28 : decode cX2_up 28 = .ok (.aload_n 0, 1) := dk_42 (dk_at dksX2_up_1 4 rfl rfl)
theorem dX2_up_29 : decode cX2_up 29 = .ok (.getfield 12, 3) := dk_180 0 12 (dk_at dksX2_up_1 5 rfl rfl)
theorem dX2_up_32 : decode cX2_up 32 = .ok (.iload_n 2, 1) := dk_28 (dk_at dksX2_up_1 8 rfl rfl)
theorem dX2_up_33 : decode cX2_up 33 = .ok (.invokevirtual 144, 3) := dk_182 0 144 (dk_at dksX2_up_1 9 rfl rfl)
theorem dX2_up_36 : decode cX2_up 36 = .ok (.checkcast 52, 3) := dk_192 0 52 (dk_at dksX2_up_1 12 rfl rfl)
theorem dX2_up_39 : decode cX2_up 39 = .ok (.dup, 1) := dk_89 (dk_at dksX2_up_1 15 rfl rfl)
theorem dX2_up_40 : decode cX2_up 40 = .ok (.getfield 217, 3) := dk_180 0 217 (dk_at dksX2_up_1 16 rfl rfl)
theorem dX2_up_43 : decode cX2_up 43 = .ok (.iconst 1, 1) := dk_4 (dk_at dksX2_up_1 19 rfl rfl)
theorem dX2_up_44 : decode cX2_up 44 = .ok (.iadd, 1) := dk_96 (dk_at dksX2_up_1 20 rfl rfl)
theorem dX2_up_45 : decode cX2_up 45 = .ok (.putfield 217, 3) := dk_181 0 217 (dk_at dksX2_up_1 21 rfl rfl)
theorem dX2_up_48 : decode cX2_up 48 = .ok (.aload_n 0, 1) := dk_42 (dk_at dksX2_up_2 0 rfl rfl)
theorem dX2_up_49 : decode cX2_up 49 = .ok (.getfield 12, 3) := dk_180 0 12 (dk_at dksX2_up_2 1 rfl rfl)
theorem dX2_up_52 : decode cX2_up 52 = .ok (.iload_n 2, 1) := dk_28 (dk_at dksX2_up_2 4 rfl rfl)
theorem dX2_up_53 : decode cX2_up 53 = .ok (.invokevirtual 144, 3) := dk_182 0 144 (dk_at dksX2_up_2 5 rfl rfl)
theorem dX2_up_56 : decode cX2_up 56 = .ok (.checkcast 52, 3) := dk_192 0 52 (dk_at dksX2_up_2 8 rfl rfl)
theorem dX2_up_59 : decode cX2_up 59 = .ok (.invokevirtual 160, 3) := dk_182 0 160 (dk_at dksX2_up_2 11 rfl rfl)
theorem dX2_up_62 : decode cX2_up 62 = .ok (.aload_n 0, 1) := dk_42 (dk_at dksX2_up_2 14 rfl rfl)
theorem dX2_up_63 : decode cX2_up 63 = .ok (.iload_n 2, 1) := dk_28 (dk_at dksX2_up_2 15 rfl rfl)
theorem dX2_up_64 : decode cX2_up 64 = .ok (.invokevirtual 166, 3) := dk_182 0 166 (dk_at dksX2_up_2 16 rfl rfl)
theorem dX2_up_67 : decode cX2_up 67 = .ok (.isub, 1) := dk_100 (dk_at dksX2_up_2 19 rfl rfl)
theorem dX2_up_68 : decode cX2_up 68 = .ok (.ireturn, 1) := dk_172 (dk_at dksX2_up_2 20 rfl rfl)
abbrev cX2_checkUp : ByteArray := prog_5_method_21_code
def yX2_checkUp : MethodName := ⟨RX2, "checkUp", "(LJumpHall$Jumper;I)V"⟩
def dkwX2_checkUp_6 : List UInt8 := [16, 7, 45, 180, 0, 153, 184, 0, 139, 177]
abbrev dktX2_checkUp_6 : List UInt8 := dkwX2_checkUp_6 ++ []
def dkwX2_checkUp_5 : List UInt8 := [182, 0, 205, 2, 160, 0, 29, 43, 182, 0, 208, 16, 7, 43, 180, 0, 153, 184, 0, 139, 45, 182, 0, 208]
abbrev dktX2_checkUp_5 : List UInt8 := dkwX2_checkUp_5 ++ dktX2_checkUp_6
def dkwX2_checkUp_4 : List UInt8 := [167, 0, 7, 45, 180, 0, 153, 184, 0, 139, 42, 43, 28, 182, 0, 201, 45, 198, 0, 38, 42, 28]
abbrev dktX2_checkUp_4 : List UInt8 := dkwX2_checkUp_4 ++ dktX2_checkUp_5
def dkwX2_checkUp_3 : List UInt8 := [186, 0, 197, 0, 0, 182, 0, 198, 5, 160, 0, 7, 4, 167, 0, 4, 3, 8, 45, 199, 0, 7, 2]
abbrev dktX2_checkUp_3 : List UInt8 := dkwX2_checkUp_3 ++ dktX2_checkUp_4
def dkwX2_checkUp_2 : List UInt8 := [192, 0, 52, 180, 0, 135, 7, 28, 184, 0, 139, 42, 28, 186, 0, 196, 0, 0, 182, 0, 149, 78, 42, 28]
abbrev dktX2_checkUp_2 : List UInt8 := dkwX2_checkUp_2 ++ dktX2_checkUp_3
def dkwX2_checkUp_1 : List UInt8 := [154, 0, 7, 4, 167, 0, 4, 3, 6, 43, 180, 0, 194, 184, 0, 139, 42, 180, 0, 12, 28, 182, 0, 144]
abbrev dktX2_checkUp_1 : List UInt8 := dkwX2_checkUp_1 ++ dktX2_checkUp_2
def dkwX2_checkUp_0 : List UInt8 := [43, 180, 0, 190, 153, 0, 7, 4, 167, 0, 4, 3, 5, 43, 180, 0, 190, 184, 0, 139, 43, 182, 0, 191]
abbrev dktX2_checkUp_0 : List UInt8 := dkwX2_checkUp_0 ++ dktX2_checkUp_1
theorem dksX2_checkUp_0 : cX2_checkUp.data.toList.drop 0 = dktX2_checkUp_0 := by decide +kernel
theorem dksX2_checkUp_1 : cX2_checkUp.data.toList.drop 24 = dktX2_checkUp_1 := dk_seg dksX2_checkUp_0 24 rfl rfl
theorem dksX2_checkUp_2 : cX2_checkUp.data.toList.drop 48 = dktX2_checkUp_2 := dk_seg dksX2_checkUp_1 24 rfl rfl
theorem dksX2_checkUp_3 : cX2_checkUp.data.toList.drop 72 = dktX2_checkUp_3 := dk_seg dksX2_checkUp_2 24 rfl rfl
theorem dksX2_checkUp_4 : cX2_checkUp.data.toList.drop 95 = dktX2_checkUp_4 := dk_seg dksX2_checkUp_3 23 rfl rfl
theorem dksX2_checkUp_5 : cX2_checkUp.data.toList.drop 117 = dktX2_checkUp_5 := dk_seg dksX2_checkUp_4 22 rfl rfl
theorem dksX2_checkUp_6 : cX2_checkUp.data.toList.drop 141 = dktX2_checkUp_6 := dk_seg dksX2_checkUp_5 24 rfl rfl
theorem dX2_checkUp_0 : decode cX2_checkUp 0 = .ok (.aload_n 1, 1) := dk_43 (dk_at dksX2_checkUp_0 0 rfl rfl)
theorem dX2_checkUp_1 : decode cX2_checkUp 1 = .ok (.getfield 190, 3) := dk_180 0 190 (dk_at dksX2_checkUp_0 1 rfl rfl)
theorem dX2_checkUp_4 : decode cX2_checkUp 4 = .ok (.ifCond .eq 7, 3) := dk_153 0 7 (dk_at dksX2_checkUp_0 4 rfl rfl)
theorem dX2_checkUp_7 : decode cX2_checkUp 7 = .ok (.iconst 1, 1) := dk_4 (dk_at dksX2_checkUp_0 7 rfl rfl)
theorem dX2_checkUp_8 : decode cX2_checkUp 8 = .ok (.goto 4, 3) := dk_167 0 4 (dk_at dksX2_checkUp_0 8 rfl rfl)
theorem dX2_checkUp_11 : decode cX2_checkUp 11 = .ok (.iconst 0, 1) := dk_3 (dk_at dksX2_checkUp_0 11 rfl rfl)
theorem dX2_checkUp_12 : decode cX2_checkUp 12 = .ok (.iconst 2, 1) := dk_5 (dk_at dksX2_checkUp_0 12 rfl rfl)
theorem dX2_checkUp_13 : decode cX2_checkUp 13 = .ok (.aload_n 1, 1) := dk_43 (dk_at dksX2_checkUp_0 13 rfl rfl)
theorem dX2_checkUp_14 : decode cX2_checkUp 14 = .ok (.getfield 190, 3) := dk_180 0 190 (dk_at dksX2_checkUp_0 14 rfl rfl)
theorem dX2_checkUp_17 : decode cX2_checkUp 17 = .ok (.invokestatic 139, 3) := dk_184 0 139 (dk_at dksX2_checkUp_0 17 rfl rfl)
theorem dX2_checkUp_20 : decode cX2_checkUp 20 = .ok (.aload_n 1, 1) := dk_43 (dk_at dksX2_checkUp_0 20 rfl rfl)
theorem dX2_checkUp_21 : decode cX2_checkUp 21 = .ok (.invokevirtual 191, 3) := dk_182 0 191 (dk_at dksX2_checkUp_0 21 rfl rfl)
theorem dX2_checkUp_24 : decode cX2_checkUp 24 = .ok (.ifCond .ne 7, 3) := dk_154 0 7 (dk_at dksX2_checkUp_1 0 rfl rfl)
theorem dX2_checkUp_27 : decode cX2_checkUp 27 = .ok (.iconst 1, 1) := dk_4 (dk_at dksX2_checkUp_1 3 rfl rfl)
theorem dX2_checkUp_28 : decode cX2_checkUp 28 = .ok (.goto 4, 3) := dk_167 0 4 (dk_at dksX2_checkUp_1 4 rfl rfl)
theorem dX2_checkUp_31 : decode cX2_checkUp 31 = .ok (.iconst 0, 1) := dk_3 (dk_at dksX2_checkUp_1 7 rfl rfl)
theorem dX2_checkUp_32 : decode cX2_checkUp 32 = .ok (.iconst 3, 1) := dk_6 (dk_at dksX2_checkUp_1 8 rfl rfl)
theorem dX2_checkUp_33 : decode cX2_checkUp 33 = .ok (.aload_n 1, 1) := dk_43 (dk_at dksX2_checkUp_1 9 rfl rfl)
theorem dX2_checkUp_34 : decode cX2_checkUp 34 = .ok (.getfield 194, 3) := dk_180 0 194 (dk_at dksX2_checkUp_1 10 rfl rfl)
theorem dX2_checkUp_37 : decode cX2_checkUp 37 = .ok (.invokestatic 139, 3) := dk_184 0 139 (dk_at dksX2_checkUp_1 13 rfl rfl)
theorem dX2_checkUp_40 : decode cX2_checkUp 40 = .ok (.aload_n 0, 1) := dk_42 (dk_at dksX2_checkUp_1 16 rfl rfl)
theorem dX2_checkUp_41 : decode cX2_checkUp 41 = .ok (.getfield 12, 3) := dk_180 0 12 (dk_at dksX2_checkUp_1 17 rfl rfl)
theorem dX2_checkUp_44 : decode cX2_checkUp 44 = .ok (.iload_n 2, 1) := dk_28 (dk_at dksX2_checkUp_1 20 rfl rfl)
theorem dX2_checkUp_45 : decode cX2_checkUp 45 = .ok (.invokevirtual 144, 3) := dk_182 0 144 (dk_at dksX2_checkUp_1 21 rfl rfl)
theorem dX2_checkUp_48 : decode cX2_checkUp 48 = .ok (.checkcast 52, 3) := dk_192 0 52 (dk_at dksX2_checkUp_2 0 rfl rfl)
theorem dX2_checkUp_51 : decode cX2_checkUp 51 = .ok (.getfield 135, 3) := dk_180 0 135 (dk_at dksX2_checkUp_2 3 rfl rfl)
theorem dX2_checkUp_54 : decode cX2_checkUp 54 = .ok (.iconst 4, 1) := dk_7 (dk_at dksX2_checkUp_2 6 rfl rfl)
theorem dX2_checkUp_55 : decode cX2_checkUp 55 = .ok (.iload_n 2, 1) := dk_28 (dk_at dksX2_checkUp_2 7 rfl rfl)
theorem dX2_checkUp_56 : decode cX2_checkUp 56 = .ok (.invokestatic 139, 3) := dk_184 0 139 (dk_at dksX2_checkUp_2 8 rfl rfl)
theorem dX2_checkUp_59 : decode cX2_checkUp 59 = .ok (.aload_n 0, 1) := dk_42 (dk_at dksX2_checkUp_2 11 rfl rfl)
theorem dX2_checkUp_60 : decode cX2_checkUp 60 = .ok (.iload_n 2, 1) := dk_28 (dk_at dksX2_checkUp_2 12 rfl rfl)
theorem dX2_checkUp_61 : decode cX2_checkUp 61 = .ok (.invokedynamic 196, 5) := by decide +kernel
theorem dX2_checkUp_66 : decode cX2_checkUp 66 = .ok (.invokevirtual 149, 3) := dk_182 0 149 (dk_at dksX2_checkUp_2 18 rfl rfl)
theorem dX2_checkUp_69 : decode cX2_checkUp 69 = .ok (.astore_n 3, 1) := dk_78 (dk_at dksX2_checkUp_2 21 rfl rfl)
theorem dX2_checkUp_70 : decode cX2_checkUp 70 = .ok (.aload_n 0, 1) := dk_42 (dk_at dksX2_checkUp_2 22 rfl rfl)
theorem dX2_checkUp_71 : decode cX2_checkUp 71 = .ok (.iload_n 2, 1) := dk_28 (dk_at dksX2_checkUp_2 23 rfl rfl)
theorem dX2_checkUp_72 : decode cX2_checkUp 72 = .ok (.invokedynamic 197, 5) := by decide +kernel
theorem dX2_checkUp_77 : decode cX2_checkUp 77 = .ok (.invokevirtual 198, 3) := dk_182 0 198 (dk_at dksX2_checkUp_3 5 rfl rfl)
theorem dX2_checkUp_80 : decode cX2_checkUp 80 = .ok (.iconst 2, 1) := dk_5 (dk_at dksX2_checkUp_3 8 rfl rfl)
theorem dX2_checkUp_81 : decode cX2_checkUp 81 = .ok (.if_icmp .ne 7, 3) := dk_160 0 7 (dk_at dksX2_checkUp_3 9 rfl rfl)
theorem dX2_checkUp_84 : decode cX2_checkUp 84 = .ok (.iconst 1, 1) := dk_4 (dk_at dksX2_checkUp_3 12 rfl rfl)
theorem dX2_checkUp_85 : decode cX2_checkUp 85 = .ok (.goto 4, 3) := dk_167 0 4 (dk_at dksX2_checkUp_3 13 rfl rfl)
theorem dX2_checkUp_88 : decode cX2_checkUp 88 = .ok (.iconst 0, 1) := dk_3 (dk_at dksX2_checkUp_3 16 rfl rfl)
theorem dX2_checkUp_89 : decode cX2_checkUp 89 = .ok (.iconst 5, 1) := dk_8 (dk_at dksX2_checkUp_3 17 rfl rfl)
theorem dX2_checkUp_90 : decode cX2_checkUp 90 = .ok (.aload_n 3, 1) := dk_45 (dk_at dksX2_checkUp_3 18 rfl rfl)
theorem dX2_checkUp_91 : decode cX2_checkUp 91 = .ok (.ifnonnull 7, 3) := dk_199 0 7 (dk_at dksX2_checkUp_3 19 rfl rfl)
theorem dX2_checkUp_94 : decode cX2_checkUp 94 = .ok (.iconst (-1), 1) := dk_2 (dk_at dksX2_checkUp_3 22 rfl rfl)
theorem dX2_checkUp_95 : decode cX2_checkUp 95 = .ok (.goto 7, 3) := dk_167 0 7 (dk_at dksX2_checkUp_4 0 rfl rfl)
theorem dX2_checkUp_98 : decode cX2_checkUp 98 = .ok (.aload_n 3, 1) := dk_45 (dk_at dksX2_checkUp_4 3 rfl rfl)
theorem dX2_checkUp_99 : decode cX2_checkUp 99 = .ok (.getfield 153, 3) := dk_180 0 153 (dk_at dksX2_checkUp_4 4 rfl rfl)
theorem dX2_checkUp_102 : decode cX2_checkUp 102 = .ok (.invokestatic 139, 3) := dk_184 0 139 (dk_at dksX2_checkUp_4 7 rfl rfl)
theorem dX2_checkUp_105 : decode cX2_checkUp 105 = .ok (.aload_n 0, 1) := dk_42 (dk_at dksX2_checkUp_4 10 rfl rfl)
theorem dX2_checkUp_106 : decode cX2_checkUp 106 = .ok (.aload_n 1, 1) := dk_43 (dk_at dksX2_checkUp_4 11 rfl rfl)
theorem dX2_checkUp_107 : decode cX2_checkUp 107 = .ok (.iload_n 2, 1) := dk_28 (dk_at dksX2_checkUp_4 12 rfl rfl)
theorem dX2_checkUp_108 : decode cX2_checkUp 108 = .ok (.invokevirtual 201, 3) := dk_182 0 201 (dk_at dksX2_checkUp_4 13 rfl rfl)
theorem dX2_checkUp_111 : decode cX2_checkUp 111 = .ok (.aload_n 3, 1) := dk_45 (dk_at dksX2_checkUp_4 16 rfl rfl)
theorem dX2_checkUp_112 : decode cX2_checkUp 112 = .ok (.ifnull 38, 3) := dk_198 0 38 (dk_at dksX2_checkUp_4 17 rfl rfl)
theorem dX2_checkUp_115 : decode cX2_checkUp 115 = .ok (.aload_n 0, 1) := dk_42 (dk_at dksX2_checkUp_4 20 rfl rfl)
theorem dX2_checkUp_116 : decode cX2_checkUp 116 = .ok (.iload_n 2, 1) := dk_28 (dk_at dksX2_checkUp_4 21 rfl rfl)
theorem dX2_checkUp_117 : decode cX2_checkUp 117 = .ok (.invokevirtual 205, 3) := dk_182 0 205 (dk_at dksX2_checkUp_5 0 rfl rfl)
theorem dX2_checkUp_120 : decode cX2_checkUp 120 = .ok (.iconst (-1), 1) := dk_2 (dk_at dksX2_checkUp_5 3 rfl rfl)
theorem dX2_checkUp_121 : decode cX2_checkUp 121 = .ok (.if_icmp .ne 29, 3) := dk_160 0 29 (dk_at dksX2_checkUp_5 4 rfl rfl)
theorem dX2_checkUp_124 : decode cX2_checkUp 124 = .ok (.aload_n 1, 1) := dk_43 (dk_at dksX2_checkUp_5 7 rfl rfl)
theorem dX2_checkUp_125 : decode cX2_checkUp 125 = .ok (.invokevirtual 208, 3) := dk_182 0 208 (dk_at dksX2_checkUp_5 8 rfl rfl)
theorem dX2_checkUp_128 : decode cX2_checkUp 128 = .ok (.bipush 7, 2) := dk_16 7 (dk_at dksX2_checkUp_5 11 rfl rfl)
theorem dX2_checkUp_130 : decode cX2_checkUp 130 = .ok (.aload_n 1, 1) := dk_43 (dk_at dksX2_checkUp_5 13 rfl rfl)
theorem dX2_checkUp_131 : decode cX2_checkUp 131 = .ok (.getfield 153, 3) := dk_180 0 153 (dk_at dksX2_checkUp_5 14 rfl rfl)
theorem dX2_checkUp_134 : decode cX2_checkUp 134 = .ok (.invokestatic 139, 3) := dk_184 0 139 (dk_at dksX2_checkUp_5 17 rfl rfl)
theorem dX2_checkUp_137 : decode cX2_checkUp 137 = .ok (.aload_n 3, 1) := dk_45 (dk_at dksX2_checkUp_5 20 rfl rfl)
theorem dX2_checkUp_138 : decode cX2_checkUp 138 = .ok (.invokevirtual 208, 3) := dk_182 0 208 (dk_at dksX2_checkUp_5 21 rfl rfl)
theorem dX2_checkUp_141 : decode cX2_checkUp 141 = .ok (.bipush 7, 2) := dk_16 7 (dk_at dksX2_checkUp_6 0 rfl rfl)
theorem dX2_checkUp_143 : decode cX2_checkUp 143 = .ok (.aload_n 3, 1) := dk_45 (dk_at dksX2_checkUp_6 2 rfl rfl)
theorem dX2_checkUp_144 : decode cX2_checkUp 144 = .ok (.getfield 153, 3) := dk_180 0 153 (dk_at dksX2_checkUp_6 3 rfl rfl)
theorem dX2_checkUp_147 : decode cX2_checkUp 147 = .ok (.invokestatic 139, 3) := dk_184 0 139 (dk_at dksX2_checkUp_6 6 rfl rfl)
theorem dX2_checkUp_150 : decode cX2_checkUp 150 = .ok (.return_, 1) := dk_177 (dk_at dksX2_checkUp_6 9 rfl rfl)
abbrev cX2_lambda_checkUp_2 : ByteArray := prog_5_method_40_code
def yX2_lambda_checkUp_2 : MethodName := ⟨RX2, "lambda$checkUp$2", "(ILJumpHall$Jumper;)Z"⟩
def dkwX2_lambda_checkUp_2_0 : List UInt8 := [43, 26, 182, 0, 170, 172]
abbrev dktX2_lambda_checkUp_2_0 : List UInt8 := dkwX2_lambda_checkUp_2_0 ++ []
theorem dksX2_lambda_checkUp_2_0 : cX2_lambda_checkUp_2.data.toList.drop 0 = dktX2_lambda_checkUp_2_0 := by decide +kernel
theorem dX2_lambda_checkUp_2_0 : decode cX2_lambda_checkUp_2 0 = .ok (.aload_n 1, 1) := dk_43 (dk_at dksX2_lambda_checkUp_2_0 0 rfl rfl)
theorem dX2_lambda_checkUp_2_1 : decode cX2_lambda_checkUp_2 1 = .ok (.iload_n 0, 1) := dk_26 (dk_at dksX2_lambda_checkUp_2_0 1 rfl rfl)
theorem dX2_lambda_checkUp_2_2 : decode cX2_lambda_checkUp_2 2 = .ok (.invokevirtual 170, 3) := dk_182 0 170 (dk_at dksX2_lambda_checkUp_2_0 2 rfl rfl)
theorem dX2_lambda_checkUp_2_5 : decode cX2_lambda_checkUp_2 5 = .ok (.ireturn, 1) := dk_172 (dk_at dksX2_lambda_checkUp_2_0 5 rfl rfl)
abbrev cX2_lambda_checkUp_3 : ByteArray := prog_5_method_39_code
def yX2_lambda_checkUp_3 : MethodName := ⟨RX2, "lambda$checkUp$3", "(ILJumpHall$Jumper;)Z"⟩
def dkwX2_lambda_checkUp_3_0 : List UInt8 := [43, 26, 182, 0, 170, 172]
abbrev dktX2_lambda_checkUp_3_0 : List UInt8 := dkwX2_lambda_checkUp_3_0 ++ []
theorem dksX2_lambda_checkUp_3_0 : cX2_lambda_checkUp_3.data.toList.drop 0 = dktX2_lambda_checkUp_3_0 := by decide +kernel
theorem dX2_lambda_checkUp_3_0 : decode cX2_lambda_checkUp_3 0 = .ok (.aload_n 1, 1) := dk_43 (dk_at dksX2_lambda_checkUp_3_0 0 rfl rfl)
theorem dX2_lambda_checkUp_3_1 : decode cX2_lambda_checkUp_3 1 = .ok (.iload_n 0, 1) := dk_26 (dk_at dksX2_lambda_checkUp_3_0 1 rfl rfl)
theorem dX2_lambda_checkUp_3_2 : decode cX2_lambda_checkUp_3 2 = .ok (.invokevirtual 170, 3) := dk_182 0 170 (dk_at dksX2_lambda_checkUp_3_0 2 rfl rfl)
theorem dX2_lambda_checkUp_3_5 : decode cX2_lambda_checkUp_3 5 = .ok (.ireturn, 1) := dk_172 (dk_at dksX2_lambda_checkUp_3_0 5 rfl rfl)
abbrev cX2_checkBearing : ByteArray := prog_5_method_20_code
def yX2_checkBearing : MethodName := ⟨RX2, "checkBearing", "(LJumpHall$Jumper;I)V"⟩
def dkwX2_checkBearing_3 : List UInt8 := [25, 5, 182, 0, 186, 191, 177]
abbrev dktX2_checkBearing_3 : List UInt8 := dkwX2_checkBearing_3 ++ []
def dkwX2_checkBearing_2 : List UInt8 := [45, 182, 0, 132, 183, 0, 183, 167, 0, 4, 1, 58, 5, 187, 0, 181, 89, 16, 6, 21, 4, 183, 0, 183]
abbrev dktX2_checkBearing_2 : List UInt8 := dkwX2_checkBearing_2 ++ dktX2_checkBearing_3
def dkwX2_checkBearing_1 : List UInt8 := [182, 0, 160, 100, 54, 4, 21, 4, 158, 0, 46, 45, 182, 0, 132, 158, 0, 19, 187, 0, 181, 89, 16, 16]
abbrev dktX2_checkBearing_1 : List UInt8 := dkwX2_checkBearing_1 ++ dktX2_checkBearing_2
def dkwX2_checkBearing_0 : List UInt8 := [42, 180, 0, 12, 28, 182, 0, 144, 192, 0, 52, 78, 42, 28, 182, 0, 166, 43, 180, 0, 109, 96, 45]
abbrev dktX2_checkBearing_0 : List UInt8 := dkwX2_checkBearing_0 ++ dktX2_checkBearing_1
theorem dksX2_checkBearing_0 : cX2_checkBearing.data.toList.drop 0 = dktX2_checkBearing_0 := by decide +kernel
theorem dksX2_checkBearing_1 : cX2_checkBearing.data.toList.drop 23 = dktX2_checkBearing_1 := dk_seg dksX2_checkBearing_0 23 rfl rfl
theorem dksX2_checkBearing_2 : cX2_checkBearing.data.toList.drop 47 = dktX2_checkBearing_2 := dk_seg dksX2_checkBearing_1 24 rfl rfl
theorem dksX2_checkBearing_3 : cX2_checkBearing.data.toList.drop 71 = dktX2_checkBearing_3 := dk_seg dksX2_checkBearing_2 24 rfl rfl
theorem dX2_checkBearing_0 : decode cX2_checkBearing 0 = .ok (.aload_n 0, 1) := dk_42 (dk_at dksX2_checkBearing_0 0 rfl rfl)
theorem dX2_checkBearing_1 : decode cX2_checkBearing 1 = .ok (.getfield 12, 3) := dk_180 0 12 (dk_at dksX2_checkBearing_0 1 rfl rfl)
theorem dX2_checkBearing_4 : decode cX2_checkBearing 4 = .ok (.iload_n 2, 1) := dk_28 (dk_at dksX2_checkBearing_0 4 rfl rfl)
theorem dX2_checkBearing_5 : decode cX2_checkBearing 5 = .ok (.invokevirtual 144, 3) := dk_182 0 144 (dk_at dksX2_checkBearing_0 5 rfl rfl)
theorem dX2_checkBearing_8 : decode cX2_checkBearing 8 = .ok (.checkcast 52, 3) := dk_192 0 52 (dk_at dksX2_checkBearing_0 8 rfl rfl)
theorem dX2_checkBearing_11 : decode cX2_checkBearing 11 = .ok (.astore_n 3, 1) := dk_78 (dk_at dksX2_checkBearing_0 11 rfl rfl)
theorem dX2_checkBearing_12 : decode cX2_checkBearing 12 = .ok (.aload_n 0, 1) := dk_42 (dk_at dksX2_checkBearing_0 12 rfl rfl)
theorem dX2_checkBearing_13 : decode cX2_checkBearing 13 = .ok (.iload_n 2, 1) := dk_28 (dk_at dksX2_checkBearing_0 13 rfl rfl)
theorem dX2_checkBearing_14 : decode cX2_checkBearing 14 = .ok (.invokevirtual 166, 3) := dk_182 0 166 (dk_at dksX2_checkBearing_0 14 rfl rfl)
theorem dX2_checkBearing_17 : decode cX2_checkBearing 17 = .ok (.aload_n 1, 1) := dk_43 (dk_at dksX2_checkBearing_0 17 rfl rfl)
theorem dX2_checkBearing_18 : decode cX2_checkBearing 18 = .ok (.getfield 109, 3) := dk_180 0 109 (dk_at dksX2_checkBearing_0 18 rfl rfl)
theorem dX2_checkBearing_21 : decode cX2_checkBearing 21 = .ok (.iadd, 1) := dk_96 (dk_at dksX2_checkBearing_0 21 rfl rfl)
theorem dX2_checkBearing_22 : decode cX2_checkBearing 22 = .ok (.aload_n 3, 1) := dk_45 (dk_at dksX2_checkBearing_0 22 rfl rfl)
theorem dX2_checkBearing_23 : decode cX2_checkBearing 23 = .ok (.invokevirtual 160, 3) := dk_182 0 160 (dk_at dksX2_checkBearing_1 0 rfl rfl)
theorem dX2_checkBearing_26 : decode cX2_checkBearing 26 = .ok (.isub, 1) := dk_100 (dk_at dksX2_checkBearing_1 3 rfl rfl)
theorem dX2_checkBearing_27 : decode cX2_checkBearing 27 = .ok (.istore 4, 2) := dk_54 4 (dk_at dksX2_checkBearing_1 4 rfl rfl)
theorem dX2_checkBearing_29 : decode cX2_checkBearing 29 = .ok (.iload 4, 2) := dk_21 4 (dk_at dksX2_checkBearing_1 6 rfl rfl)
theorem dX2_checkBearing_31 : decode cX2_checkBearing 31 = .ok (.ifCond .le 46, 3) := dk_158 0 46 (dk_at dksX2_checkBearing_1 8 rfl rfl)
theorem dX2_checkBearing_34 : decode cX2_checkBearing 34 = .ok (.aload_n 3, 1) := dk_45 (dk_at dksX2_checkBearing_1 11 rfl rfl)
theorem dX2_checkBearing_35 : decode cX2_checkBearing 35 = .ok (.invokevirtual 132, 3) := dk_182 0 132 (dk_at dksX2_checkBearing_1 12 rfl rfl)
theorem dX2_checkBearing_38 : decode cX2_checkBearing 38 = .ok (.ifCond .le 19, 3) := dk_158 0 19 (dk_at dksX2_checkBearing_1 15 rfl rfl)
theorem dX2_checkBearing_41 : decode cX2_checkBearing 41 = .ok (.new 181, 3) := dk_187 0 181 (dk_at dksX2_checkBearing_1 18 rfl rfl)
theorem dX2_checkBearing_44 : decode cX2_checkBearing 44 = .ok (.dup, 1) := dk_89 (dk_at dksX2_checkBearing_1 21 rfl rfl)
theorem dX2_checkBearing_45 : decode cX2_checkBearing 45 = .ok (.bipush 16, 2) := dk_16 16 (dk_at dksX2_checkBearing_1 22 rfl rfl)
theorem dX2_checkBearing_47 : decode cX2_checkBearing 47 = .ok (.aload_n 3, 1) := dk_45 (dk_at dksX2_checkBearing_2 0 rfl rfl)
theorem dX2_checkBearing_48 : decode cX2_checkBearing 48 = .ok (.invokevirtual 132, 3) := dk_182 0 132 (dk_at dksX2_checkBearing_2 1 rfl rfl)
theorem dX2_checkBearing_51 : decode cX2_checkBearing 51 = .ok (.invokespecial 183, 3) := dk_183 0 183 (dk_at dksX2_checkBearing_2 4 rfl rfl)
theorem dX2_checkBearing_54 : decode cX2_checkBearing 54 = .ok (.goto 4, 3) := dk_167 0 4 (dk_at dksX2_checkBearing_2 7 rfl rfl)
theorem dX2_checkBearing_57 : decode cX2_checkBearing 57 = .ok (.aconst_null, 1) := dk_1 (dk_at dksX2_checkBearing_2 10 rfl rfl)
theorem dX2_checkBearing_58 : decode cX2_checkBearing 58 = .ok (.astore 5, 2) := dk_58 5 (dk_at dksX2_checkBearing_2 11 rfl rfl)
theorem dX2_checkBearing_60 : decode cX2_checkBearing 60 = .ok (.new 181, 3) := dk_187 0 181 (dk_at dksX2_checkBearing_2 13 rfl rfl)
theorem dX2_checkBearing_63 : decode cX2_checkBearing 63 = .ok (.dup, 1) := dk_89 (dk_at dksX2_checkBearing_2 16 rfl rfl)
theorem dX2_checkBearing_64 : decode cX2_checkBearing 64 = .ok (.bipush 6, 2) := dk_16 6 (dk_at dksX2_checkBearing_2 17 rfl rfl)
theorem dX2_checkBearing_66 : decode cX2_checkBearing 66 = .ok (.iload 4, 2) := dk_21 4 (dk_at dksX2_checkBearing_2 19 rfl rfl)
theorem dX2_checkBearing_68 : decode cX2_checkBearing 68 = .ok (.invokespecial 183, 3) := dk_183 0 183 (dk_at dksX2_checkBearing_2 21 rfl rfl)
theorem dX2_checkBearing_71 : decode cX2_checkBearing 71 = .ok (.aload 5, 2) := dk_25 5 (dk_at dksX2_checkBearing_3 0 rfl rfl)
theorem dX2_checkBearing_73 : decode cX2_checkBearing 73 = .ok (.invokevirtual 186, 3) := dk_182 0 186 (dk_at dksX2_checkBearing_3 2 rfl rfl)
theorem dX2_checkBearing_76 : decode cX2_checkBearing 76 = .ok (.athrow, 1) := dk_191 (dk_at dksX2_checkBearing_3 5 rfl rfl)
theorem dX2_checkBearing_77 : decode cX2_checkBearing 77 = .ok (.return_, 1) := dk_177 (dk_at dksX2_checkBearing_3 6 rfl rfl)
abbrev cX2_down : ByteArray := prog_5_method_24_code
def yX2_down : MethodName := ⟨RX2, "down", "(I)I"⟩
def dkwX2_down_1 : List UInt8 := [3, 5, 44, 180, 0, 190, 184, 0, 139, 44, 180, 0, 214, 62, 44, 182, 0, 220, 29, 172]
abbrev dktX2_down_1 : List UInt8 := dkwX2_down_1 ++ []
def dkwX2_down_0 : List UInt8 := [42, 180, 0, 18, 27, 182, 0, 144, 192, 0, 62, 77, 44, 180, 0, 190, 4, 159, 0, 7, 4, 167, 0, 4]
abbrev dktX2_down_0 : List UInt8 := dkwX2_down_0 ++ dktX2_down_1
theorem dksX2_down_0 : cX2_down.data.toList.drop 0 = dktX2_down_0 := by decide +kernel
theorem dksX2_down_1 : cX2_down.data.toList.drop 24 = dktX2_down_1 := dk_seg dksX2_down_0 24 rfl rfl
theorem dX2_down_0 : decode cX2_down 0 = .ok (.aload_n 0, 1) := dk_42 (dk_at dksX2_down_0 0 rfl rfl)
theorem dX2_down_1 : decode cX2_down 1 = .ok (.getfield 18, 3) := dk_180 0 18 (dk_at dksX2_down_0 1 rfl rfl)
theorem dX2_down_4 : decode cX2_down 4 = .ok (.iload_n 1, 1) := dk_27 (dk_at dksX2_down_0 4 rfl rfl)
theorem dX2_down_5 : decode cX2_down 5 = .ok (.invokevirtual 144, 3) := dk_182 0 144 (dk_at dksX2_down_0 5 rfl rfl)
theorem dX2_down_8 : decode cX2_down 8 = .ok (.checkcast 62, 3) := dk_192 0 62 (dk_at dksX2_down_0 8 rfl rfl)
theorem dX2_down_11 : decode cX2_down 11 = .ok (.astore_n 2, 1) := dk_77 (dk_at dksX2_down_0 11 rfl rfl)
theorem dX2_down_12 : decode cX2_down 12 = .ok (.aload_n 2, 1) := dk_44 (dk_at dksX2_down_0 12 rfl rfl)
theorem dX2_down_13 : decode cX2_down 13 = .ok (.getfield 190, 3) := dk_180 0 190 (dk_at dksX2_down_0 13 rfl rfl)
theorem dX2_down_16 : decode cX2_down 16 = .ok (.iconst 1, 1) := dk_4 (dk_at dksX2_down_0 16 rfl rfl)
theorem dX2_down_17 : decode cX2_down 17 = .ok (.if_icmp .eq 7, 3) := dk_159 0 7 (dk_at dksX2_down_0 17 rfl rfl)
theorem dX2_down_20 : decode cX2_down 20 = .ok (.iconst 1, 1) := dk_4 (dk_at dksX2_down_0 20 rfl rfl)
theorem dX2_down_21 : decode cX2_down 21 = .ok (.goto 4, 3) := dk_167 0 4 (dk_at dksX2_down_0 21 rfl rfl)
theorem dX2_down_24 : decode cX2_down 24 = .ok (.iconst 0, 1) := dk_3 (dk_at dksX2_down_1 0 rfl rfl)
theorem dX2_down_25 : decode cX2_down 25 = .ok (.iconst 2, 1) := dk_5 (dk_at dksX2_down_1 1 rfl rfl)
theorem dX2_down_26 : decode cX2_down 26 = .ok (.aload_n 2, 1) := dk_44 (dk_at dksX2_down_1 2 rfl rfl)
theorem dX2_down_27 : decode cX2_down 27 = .ok (.getfield 190, 3) := dk_180 0 190 (dk_at dksX2_down_1 3 rfl rfl)
theorem dX2_down_30 : decode cX2_down 30 = .ok (.invokestatic 139, 3) := dk_184 0 139 (dk_at dksX2_down_1 6 rfl rfl)
theorem dX2_down_33 : decode cX2_down 33 = .ok (.aload_n 2, 1) := dk_44 (dk_at dksX2_down_1 9 rfl rfl)
theorem dX2_down_34 : decode cX2_down 34 = .ok (.getfield 214, 3) := dk_180 0 214 (dk_at dksX2_down_1 10 rfl rfl)
theorem dX2_down_37 : decode cX2_down 37 = .ok (.istore_n 3, 1) := dk_62 (dk_at dksX2_down_1 13 rfl rfl)
theorem dX2_down_38 : decode cX2_down 38 = .ok (.aload_n 2, 1) := dk_44 (dk_at dksX2_down_1 14 rfl rfl)
theorem dX2_down_39 : decode cX2_down 39 = .ok (.invokevirtual 220, 3) := dk_182 0 220 (dk_at dksX2_down_1 15 rfl rfl)
theorem dX2_down_42 : decode cX2_down 42 = .ok (.iload_n 3, 1) := dk_29 (dk_at dksX2_down_1 18 rfl rfl)
theorem dX2_down_43 : decode cX2_down 43 = .ok (.ireturn, 1) := dk_172 (dk_at dksX2_down_1 19 rfl rfl)
abbrev cX2_leave : ByteArray := prog_5_method_25_code
def yX2_leave : MethodName := ⟨RX2, "leave", "(I)I"⟩
def dkwX2_leave_1 : List UInt8 := [5, 44, 180, 0, 190, 184, 0, 139, 44, 5, 181, 0, 190, 42, 186, 0, 223, 0, 0, 182, 0, 198, 172]
abbrev dktX2_leave_1 : List UInt8 := dkwX2_leave_1 ++ []
def dkwX2_leave_0 : List UInt8 := [42, 180, 0, 18, 27, 182, 0, 144, 192, 0, 62, 77, 44, 180, 0, 190, 153, 0, 7, 4, 167, 0, 4, 3]
abbrev dktX2_leave_0 : List UInt8 := dkwX2_leave_0 ++ dktX2_leave_1
theorem dksX2_leave_0 : cX2_leave.data.toList.drop 0 = dktX2_leave_0 := by decide +kernel
theorem dksX2_leave_1 : cX2_leave.data.toList.drop 24 = dktX2_leave_1 := dk_seg dksX2_leave_0 24 rfl rfl
theorem dX2_leave_0 : decode cX2_leave 0 = .ok (.aload_n 0, 1) := dk_42 (dk_at dksX2_leave_0 0 rfl rfl)
theorem dX2_leave_1 : decode cX2_leave 1 = .ok (.getfield 18, 3) := dk_180 0 18 (dk_at dksX2_leave_0 1 rfl rfl)
theorem dX2_leave_4 : decode cX2_leave 4 = .ok (.iload_n 1, 1) := dk_27 (dk_at dksX2_leave_0 4 rfl rfl)
theorem dX2_leave_5 : decode cX2_leave 5 = .ok (.invokevirtual 144, 3) := dk_182 0 144 (dk_at dksX2_leave_0 5 rfl rfl)
theorem dX2_leave_8 : decode cX2_leave 8 = .ok (.checkcast 62, 3) := dk_192 0 62 (dk_at dksX2_leave_0 8 rfl rfl)
theorem dX2_leave_11 : decode cX2_leave 11 = .ok (.astore_n 2, 1) := dk_77 (dk_at dksX2_leave_0 11 rfl rfl)
theorem dX2_leave_12 : decode cX2_leave 12 = .ok (.aload_n 2, 1) := dk_44 (dk_at dksX2_leave_0 12 rfl rfl)
theorem dX2_leave_13 : decode cX2_leave 13 = .ok (.getfield 190, 3) := dk_180 0 190 (dk_at dksX2_leave_0 13 rfl rfl)
theorem dX2_leave_16 : decode cX2_leave 16 = .ok (.ifCond .eq 7, 3) := dk_153 0 7 (dk_at dksX2_leave_0 16 rfl rfl)
theorem dX2_leave_19 : decode cX2_leave 19 = .ok (.iconst 1, 1) := dk_4 (dk_at dksX2_leave_0 19 rfl rfl)
theorem dX2_leave_20 : decode cX2_leave 20 = .ok (.goto 4, 3) := dk_167 0 4 (dk_at dksX2_leave_0 20 rfl rfl)
theorem dX2_leave_23 : decode cX2_leave 23 = .ok (.iconst 0, 1) := dk_3 (dk_at dksX2_leave_0 23 rfl rfl)
theorem dX2_leave_24 : decode cX2_leave 24 = .ok (.iconst 2, 1) := dk_5 (dk_at dksX2_leave_1 0 rfl rfl)
theorem dX2_leave_25 : decode cX2_leave 25 = .ok (.aload_n 2, 1) := dk_44 (dk_at dksX2_leave_1 1 rfl rfl)
theorem dX2_leave_26 : decode cX2_leave 26 = .ok (.getfield 190, 3) := dk_180 0 190 (dk_at dksX2_leave_1 2 rfl rfl)
theorem dX2_leave_29 : decode cX2_leave 29 = .ok (.invokestatic 139, 3) := dk_184 0 139 (dk_at dksX2_leave_1 5 rfl rfl)
theorem dX2_leave_32 : decode cX2_leave 32 = .ok (.aload_n 2, 1) := dk_44 (dk_at dksX2_leave_1 8 rfl rfl)
theorem dX2_leave_33 : decode cX2_leave 33 = .ok (.iconst 2, 1) := dk_5 (dk_at dksX2_leave_1 9 rfl rfl)
theorem dX2_leave_34 : decode cX2_leave 34 = .ok (.putfield 190, 3) := dk_181 0 190 (dk_at dksX2_leave_1 10 rfl rfl)
theorem dX2_leave_37 : decode cX2_leave 37 = .ok (.aload_n 0, 1) := dk_42 (dk_at dksX2_leave_1 13 rfl rfl)
theorem dX2_leave_38 : decode cX2_leave 38 = .ok (.invokedynamic 223, 5) := by decide +kernel
theorem dX2_leave_43 : decode cX2_leave 43 = .ok (.invokevirtual 198, 3) := dk_182 0 198 (dk_at dksX2_leave_1 19 rfl rfl)
theorem dX2_leave_46 : decode cX2_leave 46 = .ok (.ireturn, 1) := dk_172 (dk_at dksX2_leave_1 22 rfl rfl)
abbrev cX2_lambda_leave_4 : ByteArray := prog_5_method_38_code
def yX2_lambda_leave_4 : MethodName := ⟨RX2, "lambda$leave$4", "(LJumpHall$Jumper;)Z"⟩
def dkwX2_lambda_leave_4_0 : List UInt8 := [42, 182, 0, 229, 154, 0, 7, 4, 167, 0, 4, 3, 172]
abbrev dktX2_lambda_leave_4_0 : List UInt8 := dkwX2_lambda_leave_4_0 ++ []
theorem dksX2_lambda_leave_4_0 : cX2_lambda_leave_4.data.toList.drop 0 = dktX2_lambda_leave_4_0 := by decide +kernel
theorem dX2_lambda_leave_4_0 : decode cX2_lambda_leave_4 0 = .ok (.aload_n 0, 1) := dk_42 (dk_at dksX2_lambda_leave_4_0 0 rfl rfl)
theorem dX2_lambda_leave_4_1 : decode cX2_lambda_leave_4 1 = .ok (.invokevirtual 229, 3) := dk_182 0 229 (dk_at dksX2_lambda_leave_4_0 1 rfl rfl)
theorem dX2_lambda_leave_4_4 : decode cX2_lambda_leave_4 4 = .ok (.ifCond .ne 7, 3) := dk_154 0 7 (dk_at dksX2_lambda_leave_4_0 4 rfl rfl)
theorem dX2_lambda_leave_4_7 : decode cX2_lambda_leave_4 7 = .ok (.iconst 1, 1) := dk_4 (dk_at dksX2_lambda_leave_4_0 7 rfl rfl)
theorem dX2_lambda_leave_4_8 : decode cX2_lambda_leave_4 8 = .ok (.goto 4, 3) := dk_167 0 4 (dk_at dksX2_lambda_leave_4_0 8 rfl rfl)
theorem dX2_lambda_leave_4_11 : decode cX2_lambda_leave_4 11 = .ok (.iconst 0, 1) := dk_3 (dk_at dksX2_lambda_leave_4_0 11 rfl rfl)
theorem dX2_lambda_leave_4_12 : decode cX2_lambda_leave_4 12 = .ok (.ireturn, 1) := dk_172 (dk_at dksX2_lambda_leave_4_0 12 rfl rfl)
abbrev cX2_sell : ByteArray := prog_5_method_26_code
def yX2_sell : MethodName := ⟨RX2, "sell", "(II)I"⟩
def dkwX2_sell_5 : List UInt8 := [4, 96, 181, 0, 79, 42, 89, 180, 0, 83, 5, 96, 181, 0, 83, 42, 180, 0, 83, 172]
abbrev dktX2_sell_5 : List UInt8 := dkwX2_sell_5 ++ []
def dkwX2_sell_4 : List UInt8 := [54, 5, 42, 180, 0, 34, 25, 4, 4, 182, 0, 242, 54, 6, 45, 28, 181, 0, 232, 42, 89, 180, 0, 79]
abbrev dktX2_sell_4 : List UInt8 := dkwX2_sell_4 ++ dktX2_sell_5
def dkwX2_sell_3 : List UInt8 := [180, 0, 30, 45, 180, 0, 194, 182, 0, 239, 184, 0, 139, 42, 180, 0, 30, 25, 4, 2, 182, 0, 242]
abbrev dktX2_sell_3 : List UInt8 := dkwX2_sell_3 ++ dktX2_sell_4
def dkwX2_sell_2 : List UInt8 := [184, 0, 139, 42, 180, 0, 30, 25, 4, 182, 0, 235, 154, 0, 7, 4, 167, 0, 4, 3, 16, 8, 42]
abbrev dktX2_sell_2 : List UInt8 := dkwX2_sell_2 ++ dktX2_sell_3
def dkwX2_sell_1 : List UInt8 := [58, 4, 45, 182, 0, 229, 5, 45, 180, 0, 190, 184, 0, 139, 45, 182, 0, 191, 16, 9, 45, 180, 0, 232]
abbrev dktX2_sell_1 : List UInt8 := dkwX2_sell_1 ++ dktX2_sell_2
def dkwX2_sell_0 : List UInt8 := [42, 180, 0, 18, 27, 182, 0, 144, 192, 0, 62, 78, 187, 0, 226, 89, 45, 180, 0, 194, 28, 183, 0, 228]
abbrev dktX2_sell_0 : List UInt8 := dkwX2_sell_0 ++ dktX2_sell_1
theorem dksX2_sell_0 : cX2_sell.data.toList.drop 0 = dktX2_sell_0 := by decide +kernel
theorem dksX2_sell_1 : cX2_sell.data.toList.drop 24 = dktX2_sell_1 := dk_seg dksX2_sell_0 24 rfl rfl
theorem dksX2_sell_2 : cX2_sell.data.toList.drop 48 = dktX2_sell_2 := dk_seg dksX2_sell_1 24 rfl rfl
theorem dksX2_sell_3 : cX2_sell.data.toList.drop 71 = dktX2_sell_3 := dk_seg dksX2_sell_2 23 rfl rfl
theorem dksX2_sell_4 : cX2_sell.data.toList.drop 94 = dktX2_sell_4 := dk_seg dksX2_sell_3 23 rfl rfl
theorem dksX2_sell_5 : cX2_sell.data.toList.drop 118 = dktX2_sell_5 := dk_seg dksX2_sell_4 24 rfl rfl
theorem dX2_sell_0 : decode cX2_sell 0 = .ok (.aload_n 0, 1) := dk_42 (dk_at dksX2_sell_0 0 rfl rfl)
theorem dX2_sell_1 : decode cX2_sell 1 = .ok (.getfield 18, 3) := dk_180 0 18 (dk_at dksX2_sell_0 1 rfl rfl)
theorem dX2_sell_4 : decode cX2_sell 4 = .ok (.iload_n 1, 1) := dk_27 (dk_at dksX2_sell_0 4 rfl rfl)
theorem dX2_sell_5 : decode cX2_sell 5 = .ok (.invokevirtual 144, 3) := dk_182 0 144 (dk_at dksX2_sell_0 5 rfl rfl)
theorem dX2_sell_8 : decode cX2_sell 8 = .ok (.checkcast 62, 3) := dk_192 0 62 (dk_at dksX2_sell_0 8 rfl rfl)
theorem dX2_sell_11 : decode cX2_sell 11 = .ok (.astore_n 3, 1) := dk_78 (dk_at dksX2_sell_0 11 rfl rfl)
theorem dX2_sell_12 : decode cX2_sell 12 = .ok (.new 226, 3) := dk_187 0 226 (dk_at dksX2_sell_0 12 rfl rfl)
theorem dX2_sell_15 : decode cX2_sell 15 = .ok (.dup, 1) := dk_89 (dk_at dksX2_sell_0 15 rfl rfl)
theorem dX2_sell_16 : decode cX2_sell 16 = .ok (.aload_n 3, 1) := dk_45 (dk_at dksX2_sell_0 16 rfl rfl)
theorem dX2_sell_17 : decode cX2_sell 17 = .ok (.getfield 194, 3) := dk_180 0 194 (dk_at dksX2_sell_0 17 rfl rfl)
theorem dX2_sell_20 : decode cX2_sell 20 = .ok (.iload_n 2, 1) := dk_28 (dk_at dksX2_sell_0 20 rfl rfl)
theorem dX2_sell_21 : decode cX2_sell 21 = .ok (.invokespecial 228, 3) := dk_183 0 228 (dk_at dksX2_sell_0 21 rfl rfl)
theorem dX2_sell_24 : decode cX2_sell 24 = .ok (.astore 4, 2) := dk_58 4 (dk_at dksX2_sell_1 0 rfl rfl)
theorem dX2_sell_26 : decode cX2_sell 26 = .ok (.aload_n 3, 1) := dk_45 (dk_at dksX2_sell_1 2 rfl rfl)
theorem dX2_sell_27 : decode cX2_sell 27 = .ok (.invokevirtual 229, 3) := dk_182 0 229 (dk_at dksX2_sell_1 3 rfl rfl)
theorem dX2_sell_30 : decode cX2_sell 30 = .ok (.iconst 2, 1) := dk_5 (dk_at dksX2_sell_1 6 rfl rfl)
theorem dX2_sell_31 : decode cX2_sell 31 = .ok (.aload_n 3, 1) := dk_45 (dk_at dksX2_sell_1 7 rfl rfl)
theorem dX2_sell_32 : decode cX2_sell 32 = .ok (.getfield 190, 3) := dk_180 0 190 (dk_at dksX2_sell_1 8 rfl rfl)
theorem dX2_sell_35 : decode cX2_sell 35 = .ok (.invokestatic 139, 3) := dk_184 0 139 (dk_at dksX2_sell_1 11 rfl rfl)
theorem dX2_sell_38 : decode cX2_sell 38 = .ok (.aload_n 3, 1) := dk_45 (dk_at dksX2_sell_1 14 rfl rfl)
theorem dX2_sell_39 : decode cX2_sell 39 = .ok (.invokevirtual 191, 3) := dk_182 0 191 (dk_at dksX2_sell_1 15 rfl rfl)
theorem dX2_sell_42 : decode cX2_sell 42 = .ok (.bipush 9, 2) := dk_16 9 (dk_at dksX2_sell_1 18 rfl rfl)
theorem dX2_sell_44 : decode cX2_sell 44 = .ok (.aload_n 3, 1) := dk_45 (dk_at dksX2_sell_1 20 rfl rfl)
theorem dX2_sell_45 : decode cX2_sell 45 = .ok (.getfield 232, 3) := dk_180 0 232 (dk_at dksX2_sell_1 21 rfl rfl)
theorem dX2_sell_48 : decode cX2_sell 48 = .ok (.invokestatic 139, 3) := dk_184 0 139 (dk_at dksX2_sell_2 0 rfl rfl)
theorem dX2_sell_51 : decode cX2_sell 51 = .ok (.aload_n 0, 1) := dk_42 (dk_at dksX2_sell_2 3 rfl rfl)
theorem dX2_sell_52 : decode cX2_sell 52 = .ok (.getfield 30, 3) := dk_180 0 30 (dk_at dksX2_sell_2 4 rfl rfl)
theorem dX2_sell_55 : decode cX2_sell 55 = .ok (.aload 4, 2) := dk_25 4 (dk_at dksX2_sell_2 7 rfl rfl)
theorem dX2_sell_57 : decode cX2_sell 57 = .ok (.invokevirtual 235, 3) := dk_182 0 235 (dk_at dksX2_sell_2 9 rfl rfl)
theorem dX2_sell_60 : decode cX2_sell 60 = .ok (.ifCond .ne 7, 3) := dk_154 0 7 (dk_at dksX2_sell_2 12 rfl rfl)
theorem dX2_sell_63 : decode cX2_sell 63 = .ok (.iconst 1, 1) := dk_4 (dk_at dksX2_sell_2 15 rfl rfl)
theorem dX2_sell_64 : decode cX2_sell 64 = .ok (.goto 4, 3) := dk_167 0 4 (dk_at dksX2_sell_2 16 rfl rfl)
theorem dX2_sell_67 : decode cX2_sell 67 = .ok (.iconst 0, 1) := dk_3 (dk_at dksX2_sell_2 19 rfl rfl)
theorem dX2_sell_68 : decode cX2_sell 68 = .ok (.bipush 8, 2) := dk_16 8 (dk_at dksX2_sell_2 20 rfl rfl)
theorem dX2_sell_70 : decode cX2_sell 70 = .ok (.aload_n 0, 1) := dk_42 (dk_at dksX2_sell_2 22 rfl rfl)
theorem dX2_sell_71 : decode cX2_sell 71 = .ok (.getfield 30, 3) := dk_180 0 30 (dk_at dksX2_sell_3 0 rfl rfl)
theorem dX2_sell_74 : decode cX2_sell 74 = .ok (.aload_n 3, 1) := dk_45 (dk_at dksX2_sell_3 3 rfl rfl)
theorem dX2_sell_75 : decode cX2_sell 75 = .ok (.getfield 194, 3) := dk_180 0 194 (dk_at dksX2_sell_3 4 rfl rfl)
theorem dX2_sell_78 : decode cX2_sell 78 = .ok (.invokevirtual 239, 3) := dk_182 0 239 (dk_at dksX2_sell_3 7 rfl rfl)
theorem dX2_sell_81 : decode cX2_sell 81 = .ok (.invokestatic 139, 3) := dk_184 0 139 (dk_at dksX2_sell_3 10 rfl rfl)
theorem dX2_sell_84 : decode cX2_sell 84 = .ok (.aload_n 0, 1) := dk_42 (dk_at dksX2_sell_3 13 rfl rfl)
theorem dX2_sell_85 : decode cX2_sell 85 = .ok (.getfield 30, 3) := dk_180 0 30 (dk_at dksX2_sell_3 14 rfl rfl)
theorem dX2_sell_88 : decode cX2_sell 88 = .ok (.aload 4, 2) := dk_25 4 (dk_at dksX2_sell_3 17 rfl rfl)
theorem dX2_sell_90 : decode cX2_sell 90 = .ok (.iconst (-1), 1) := dk_2 (dk_at dksX2_sell_3 19 rfl rfl)
theorem dX2_sell_91 : decode cX2_sell 91 = .ok (.invokevirtual 242, 3) := dk_182 0 242 (dk_at dksX2_sell_3 20 rfl rfl)
theorem dX2_sell_94 : decode cX2_sell 94 = .ok (.istore 5, 2) := dk_54 5 (dk_at dksX2_sell_4 0 rfl rfl)
theorem dX2_sell_96 : decode cX2_sell 96 = .ok (.aload_n 0, 1) := dk_42 (dk_at dksX2_sell_4 2 rfl rfl)
theorem dX2_sell_97 : decode cX2_sell 97 = .ok (.getfield 34, 3) := dk_180 0 34 (dk_at dksX2_sell_4 3 rfl rfl)
theorem dX2_sell_100 : decode cX2_sell 100 = .ok (.aload 4, 2) := dk_25 4 (dk_at dksX2_sell_4 6 rfl rfl)
theorem dX2_sell_102 : decode cX2_sell 102 = .ok (.iconst 1, 1) := dk_4 (dk_at dksX2_sell_4 8 rfl rfl)
theorem dX2_sell_103 : decode cX2_sell 103 = .ok (.invokevirtual 242, 3) := dk_182 0 242 (dk_at dksX2_sell_4 9 rfl rfl)
theorem dX2_sell_106 : decode cX2_sell 106 = .ok (.istore 6, 2) := dk_54 6 (dk_at dksX2_sell_4 12 rfl rfl)
theorem dX2_sell_108 : decode cX2_sell 108 = .ok (.aload_n 3, 1) := dk_45 (dk_at dksX2_sell_4 14 rfl rfl)
theorem dX2_sell_109 : decode cX2_sell 109 = .ok (.iload_n 2, 1) := dk_28 (dk_at dksX2_sell_4 15 rfl rfl)
theorem dX2_sell_110 : decode cX2_sell 110 = .ok (.putfield 232, 3) := dk_181 0 232 (dk_at dksX2_sell_4 16 rfl rfl)
theorem dX2_sell_113 : decode cX2_sell 113 = .ok (.aload_n 0, 1) := dk_42 (dk_at dksX2_sell_4 19 rfl rfl)
theorem dX2_sell_114 : decode cX2_sell 114 = .ok (.dup, 1) := dk_89 (dk_at dksX2_sell_4 20 rfl rfl)
theorem dX2_sell_115 : decode cX2_sell 115 = .ok (.getfield 79, 3) := dk_180 0 79 (dk_at dksX2_sell_4 21 rfl rfl)
theorem dX2_sell_118 : decode cX2_sell 118 = .ok (.iconst 1, 1) := dk_4 (dk_at dksX2_sell_5 0 rfl rfl)
theorem dX2_sell_119 : decode cX2_sell 119 = .ok (.iadd, 1) := dk_96 (dk_at dksX2_sell_5 1 rfl rfl)
theorem dX2_sell_120 : decode cX2_sell 120 = .ok (.putfield 79, 3) := dk_181 0 79 (dk_at dksX2_sell_5 2 rfl rfl)
theorem dX2_sell_123 : decode cX2_sell 123 = .ok (.aload_n 0, 1) := dk_42 (dk_at dksX2_sell_5 5 rfl rfl)
theorem dX2_sell_124 : decode cX2_sell 124 = .ok (.dup, 1) := dk_89 (dk_at dksX2_sell_5 6 rfl rfl)
theorem dX2_sell_125 : decode cX2_sell 125 = .ok (.getfield 83, 3) := dk_180 0 83 (dk_at dksX2_sell_5 7 rfl rfl)
theorem dX2_sell_128 : decode cX2_sell 128 = .ok (.iconst 2, 1) := dk_5 (dk_at dksX2_sell_5 10 rfl rfl)
theorem dX2_sell_129 : decode cX2_sell 129 = .ok (.iadd, 1) := dk_96 (dk_at dksX2_sell_5 11 rfl rfl)
theorem dX2_sell_130 : decode cX2_sell 130 = .ok (.putfield 83, 3) := dk_181 0 83 (dk_at dksX2_sell_5 12 rfl rfl)
theorem dX2_sell_133 : decode cX2_sell 133 = .ok (.aload_n 0, 1) := dk_42 (dk_at dksX2_sell_5 15 rfl rfl)
theorem dX2_sell_134 : decode cX2_sell 134 = .ok (.getfield 83, 3) := dk_180 0 83 (dk_at dksX2_sell_5 16 rfl rfl)
theorem dX2_sell_137 : decode cX2_sell 137 = .ok (.ireturn, 1) := dk_172 (dk_at dksX2_sell_5 19 rfl rfl)
abbrev cX2_bestSize : ByteArray := prog_5_method_27_code
def yX2_bestSize : MethodName := ⟨RX2, "bestSize", "()I"⟩
def dkwX2_bestSize_1 : List UInt8 := [164, 0, 7, 29, 167, 0, 4, 27, 60, 28, 21, 4, 184, 0, 246, 61, 132, 3, 1, 167, 255, 219, 27, 172]
abbrev dktX2_bestSize_1 : List UInt8 := dkwX2_bestSize_1 ++ []
def dkwX2_bestSize_0 : List UInt8 := [2, 60, 3, 61, 3, 62, 29, 8, 162, 0, 38, 42, 180, 0, 34, 29, 182, 0, 239, 54, 4, 21, 4, 28]
abbrev dktX2_bestSize_0 : List UInt8 := dkwX2_bestSize_0 ++ dktX2_bestSize_1
theorem dksX2_bestSize_0 : cX2_bestSize.data.toList.drop 0 = dktX2_bestSize_0 := by decide +kernel
theorem dksX2_bestSize_1 : cX2_bestSize.data.toList.drop 24 = dktX2_bestSize_1 := dk_seg dksX2_bestSize_0 24 rfl rfl
theorem dX2_bestSize_0 : decode cX2_bestSize 0 = .ok (.iconst (-1), 1) := dk_2 (dk_at dksX2_bestSize_0 0 rfl rfl)
theorem dX2_bestSize_1 : decode cX2_bestSize 1 = .ok (.istore_n 1, 1) := dk_60 (dk_at dksX2_bestSize_0 1 rfl rfl)
theorem dX2_bestSize_2 : decode cX2_bestSize 2 = .ok (.iconst 0, 1) := dk_3 (dk_at dksX2_bestSize_0 2 rfl rfl)
theorem dX2_bestSize_3 : decode cX2_bestSize 3 = .ok (.istore_n 2, 1) := dk_61 (dk_at dksX2_bestSize_0 3 rfl rfl)
theorem dX2_bestSize_4 : decode cX2_bestSize 4 = .ok (.iconst 0, 1) := dk_3 (dk_at dksX2_bestSize_0 4 rfl rfl)
theorem dX2_bestSize_5 : decode cX2_bestSize 5 = .ok (.istore_n 3, 1) := dk_62 (dk_at dksX2_bestSize_0 5 rfl rfl)
theorem dX2_bestSize_6 : decode cX2_bestSize 6 = .ok (.iload_n 3, 1) := dk_29 (dk_at dksX2_bestSize_0 6 rfl rfl)
theorem dX2_bestSize_7 : decode cX2_bestSize 7 = .ok (.iconst 5, 1) := dk_8 (dk_at dksX2_bestSize_0 7 rfl rfl)
theorem dX2_bestSize_8 : decode cX2_bestSize 8 = .ok (.if_icmp .ge 38, 3) := dk_162 0 38 (dk_at dksX2_bestSize_0 8 rfl rfl)
theorem dX2_bestSize_11 : decode cX2_bestSize 11 = .ok (.aload_n 0, 1) := dk_42 (dk_at dksX2_bestSize_0 11 rfl rfl)
theorem dX2_bestSize_12 : decode cX2_bestSize 12 = .ok (.getfield 34, 3) := dk_180 0 34 (dk_at dksX2_bestSize_0 12 rfl rfl)
theorem dX2_bestSize_15 : decode cX2_bestSize 15 = .ok (.iload_n 3, 1) := dk_29 (dk_at dksX2_bestSize_0 15 rfl rfl)
theorem dX2_bestSize_16 : decode cX2_bestSize 16 = .ok (.invokevirtual 239, 3) := dk_182 0 239 (dk_at dksX2_bestSize_0 16 rfl rfl)
theorem dX2_bestSize_19 : decode cX2_bestSize 19 = .ok (.istore 4, 2) := dk_54 4 (dk_at dksX2_bestSize_0 19 rfl rfl)
theorem dX2_bestSize_21 : decode cX2_bestSize 21 = .ok (.iload 4, 2) := dk_21 4 (dk_at dksX2_bestSize_0 21 rfl rfl)
theorem dX2_bestSize_23 : decode cX2_bestSize 23 = .ok (.iload_n 2, 1) := dk_28 (dk_at dksX2_bestSize_0 23 rfl rfl)
theorem dX2_bestSize_24 : decode cX2_bestSize 24 = .ok (.if_icmp .le 7, 3) := dk_164 0 7 (dk_at dksX2_bestSize_1 0 rfl rfl)
theorem dX2_bestSize_27 : decode cX2_bestSize 27 = .ok (.iload_n 3, 1) := dk_29 (dk_at dksX2_bestSize_1 3 rfl rfl)
theorem dX2_bestSize_28 : decode cX2_bestSize 28 = .ok (.goto 4, 3) := dk_167 0 4 (dk_at dksX2_bestSize_1 4 rfl rfl)
theorem dX2_bestSize_31 : decode cX2_bestSize 31 = .ok (.iload_n 1, 1) := dk_27 (dk_at dksX2_bestSize_1 7 rfl rfl)
theorem dX2_bestSize_32 : decode cX2_bestSize 32 = .ok (.istore_n 1, 1) := dk_60 (dk_at dksX2_bestSize_1 8 rfl rfl)
theorem dX2_bestSize_33 : decode cX2_bestSize 33 = .ok (.iload_n 2, 1) := dk_28 (dk_at dksX2_bestSize_1 9 rfl rfl)
theorem dX2_bestSize_34 : decode cX2_bestSize 34 = .ok (.iload 4, 2) := dk_21 4 (dk_at dksX2_bestSize_1 10 rfl rfl)
theorem dX2_bestSize_36 : decode cX2_bestSize 36 = .ok (.invokestatic 246, 3) := dk_184 0 246 (dk_at dksX2_bestSize_1 12 rfl rfl)
theorem dX2_bestSize_39 : decode cX2_bestSize 39 = .ok (.istore_n 2, 1) := dk_61 (dk_at dksX2_bestSize_1 15 rfl rfl)
theorem dX2_bestSize_40 : decode cX2_bestSize 40 = .ok (.iinc 3 1, 3) := dk_132 3 1 (dk_at dksX2_bestSize_1 16 rfl rfl)
theorem dX2_bestSize_43 : decode cX2_bestSize 43 = .ok (.goto (-37), 3) := dk_167 255 219 (dk_at dksX2_bestSize_1 19 rfl rfl)
theorem dX2_bestSize_46 : decode cX2_bestSize 46 = .ok (.iload_n 1, 1) := dk_27 (dk_at dksX2_bestSize_1 22 rfl rfl)
theorem dX2_bestSize_47 : decode cX2_bestSize 47 = .ok (.ireturn, 1) := dk_172 (dk_at dksX2_bestSize_1 23 rfl rfl)
abbrev cX2_matFor : ByteArray := prog_5_method_23_code
def yX2_matFor : MethodName := ⟨RX2, "matFor", "(I)I"⟩
def dkwX2_matFor_1 : List UInt8 := [192, 0, 62, 28, 182, 0, 211, 28, 172, 78, 167, 0, 3, 132, 2, 1, 167, 255, 220, 2, 172]
abbrev dktX2_matFor_1 : List UInt8 := dkwX2_matFor_1 ++ []
def dkwX2_matFor_0 : List UInt8 := [3, 61, 28, 42, 180, 0, 12, 182, 0, 95, 162, 0, 31, 42, 42, 180, 0, 18, 27, 182, 0, 144]
abbrev dktX2_matFor_0 : List UInt8 := dkwX2_matFor_0 ++ dktX2_matFor_1
theorem dksX2_matFor_0 : cX2_matFor.data.toList.drop 0 = dktX2_matFor_0 := by decide +kernel
theorem dksX2_matFor_1 : cX2_matFor.data.toList.drop 22 = dktX2_matFor_1 := dk_seg dksX2_matFor_0 22 rfl rfl
theorem dX2_matFor_0 : decode cX2_matFor 0 = .ok (.iconst 0, 1) := dk_3 (dk_at dksX2_matFor_0 0 rfl rfl)
theorem dX2_matFor_1 : decode cX2_matFor 1 = .ok (.istore_n 2, 1) := dk_61 (dk_at dksX2_matFor_0 1 rfl rfl)
theorem dX2_matFor_2 : decode cX2_matFor 2 = .ok (.iload_n 2, 1) := dk_28 (dk_at dksX2_matFor_0 2 rfl rfl)
theorem dX2_matFor_3 : decode cX2_matFor 3 = .ok (.aload_n 0, 1) := dk_42 (dk_at dksX2_matFor_0 3 rfl rfl)
theorem dX2_matFor_4 : decode cX2_matFor 4 = .ok (.getfield 12, 3) := dk_180 0 12 (dk_at dksX2_matFor_0 4 rfl rfl)
theorem dX2_matFor_7 : decode cX2_matFor 7 = .ok (.invokevirtual 95, 3) := dk_182 0 95 (dk_at dksX2_matFor_0 7 rfl rfl)
theorem dX2_matFor_10 : decode cX2_matFor 10 = .ok (.if_icmp .ge 31, 3) := dk_162 0 31 (dk_at dksX2_matFor_0 10 rfl rfl)
theorem dX2_matFor_13 : decode cX2_matFor 13 = .ok (.aload_n 0, 1) := dk_42 (dk_at dksX2_matFor_0 13 rfl rfl)
theorem dX2_matFor_14 : decode cX2_matFor 14 = .ok (.aload_n 0, 1) := dk_42 (dk_at dksX2_matFor_0 14 rfl rfl)
theorem dX2_matFor_15 : decode cX2_matFor 15 = .ok (.getfield 18, 3) := dk_180 0 18 (dk_at dksX2_matFor_0 15 rfl rfl)
theorem dX2_matFor_18 : decode cX2_matFor 18 = .ok (.iload_n 1, 1) := dk_27 (dk_at dksX2_matFor_0 18 rfl rfl)
theorem dX2_matFor_19 : decode cX2_matFor 19 = .ok (.invokevirtual 144, 3) := dk_182 0 144 (dk_at dksX2_matFor_0 19 rfl rfl)
theorem dX2_matFor_22 : decode cX2_matFor 22 = .ok (.checkcast 62, 3) := dk_192 0 62 (dk_at dksX2_matFor_1 0 rfl rfl)
theorem dX2_matFor_25 : decode cX2_matFor 25 = .ok (.iload_n 2, 1) := dk_28 (dk_at dksX2_matFor_1 3 rfl rfl)
theorem dX2_matFor_26 : decode cX2_matFor 26 = .ok (.invokevirtual 211, 3) := dk_182 0 211 (dk_at dksX2_matFor_1 4 rfl rfl)
theorem dX2_matFor_29 : decode cX2_matFor 29 = .ok (.iload_n 2, 1) := dk_28 (dk_at dksX2_matFor_1 7 rfl rfl)
theorem dX2_matFor_30 : decode cX2_matFor 30 = .ok (.ireturn, 1) := dk_172 (dk_at dksX2_matFor_1 8 rfl rfl)
theorem dX2_matFor_31 : decode cX2_matFor 31 = .ok (.astore_n 3, 1) := dk_78 (dk_at dksX2_matFor_1 9 rfl rfl)
theorem dX2_matFor_32 : decode cX2_matFor 32 = .ok (.goto 3, 3) := dk_167 0 3 (dk_at dksX2_matFor_1 10 rfl rfl)
theorem dX2_matFor_35 : decode cX2_matFor 35 = .ok (.iinc 2 1, 3) := dk_132 2 1 (dk_at dksX2_matFor_1 13 rfl rfl)
theorem dX2_matFor_38 : decode cX2_matFor 38 = .ok (.goto (-36), 3) := dk_167 255 220 (dk_at dksX2_matFor_1 16 rfl rfl)
theorem dX2_matFor_41 : decode cX2_matFor 41 = .ok (.iconst (-1), 1) := dk_2 (dk_at dksX2_matFor_1 19 rfl rfl)
theorem dX2_matFor_42 : decode cX2_matFor 42 = .ok (.ireturn, 1) := dk_172 (dk_at dksX2_matFor_1 20 rfl rfl)
abbrev cX2_addGuard : ByteArray := prog_5_method_28_code
def yX2_addGuard : MethodName := ⟨RX2, "addGuard", "()I"⟩
def dkwX2_addGuard_1 : List UInt8 := [180, 0, 24, 2, 184, 0, 119, 182, 0, 58, 87, 42, 180, 0, 24, 182, 0, 95, 4, 100, 172]
abbrev dktX2_addGuard_1 : List UInt8 := dkwX2_addGuard_1 ++ []
def dkwX2_addGuard_0 : List UInt8 := [42, 180, 0, 24, 182, 0, 95, 7, 160, 0, 7, 4, 167, 0, 4, 3, 4, 7, 184, 0, 139, 42]
abbrev dktX2_addGuard_0 : List UInt8 := dkwX2_addGuard_0 ++ dktX2_addGuard_1
theorem dksX2_addGuard_0 : cX2_addGuard.data.toList.drop 0 = dktX2_addGuard_0 := by decide +kernel
theorem dksX2_addGuard_1 : cX2_addGuard.data.toList.drop 22 = dktX2_addGuard_1 := dk_seg dksX2_addGuard_0 22 rfl rfl
theorem dX2_addGuard_0 : decode cX2_addGuard 0 = .ok (.aload_n 0, 1) := dk_42 (dk_at dksX2_addGuard_0 0 rfl rfl)
theorem dX2_addGuard_1 : decode cX2_addGuard 1 = .ok (.getfield 24, 3) := dk_180 0 24 (dk_at dksX2_addGuard_0 1 rfl rfl)
theorem dX2_addGuard_4 : decode cX2_addGuard 4 = .ok (.invokevirtual 95, 3) := dk_182 0 95 (dk_at dksX2_addGuard_0 4 rfl rfl)
theorem dX2_addGuard_7 : decode cX2_addGuard 7 = .ok (.iconst 4, 1) := dk_7 (dk_at dksX2_addGuard_0 7 rfl rfl)
theorem dX2_addGuard_8 : decode cX2_addGuard 8 = .ok (.if_icmp .ne 7, 3) := dk_160 0 7 (dk_at dksX2_addGuard_0 8 rfl rfl)
theorem dX2_addGuard_11 : decode cX2_addGuard 11 = .ok (.iconst 1, 1) := dk_4 (dk_at dksX2_addGuard_0 11 rfl rfl)
theorem dX2_addGuard_12 : decode cX2_addGuard 12 = .ok (.goto 4, 3) := dk_167 0 4 (dk_at dksX2_addGuard_0 12 rfl rfl)
theorem dX2_addGuard_15 : decode cX2_addGuard 15 = .ok (.iconst 0, 1) := dk_3 (dk_at dksX2_addGuard_0 15 rfl rfl)
theorem dX2_addGuard_16 : decode cX2_addGuard 16 = .ok (.iconst 1, 1) := dk_4 (dk_at dksX2_addGuard_0 16 rfl rfl)
theorem dX2_addGuard_17 : decode cX2_addGuard 17 = .ok (.iconst 4, 1) := dk_7 (dk_at dksX2_addGuard_0 17 rfl rfl)
theorem dX2_addGuard_18 : decode cX2_addGuard 18 = .ok (.invokestatic 139, 3) := dk_184 0 139 (dk_at dksX2_addGuard_0 18 rfl rfl)
theorem dX2_addGuard_21 : decode cX2_addGuard 21 = .ok (.aload_n 0, 1) := dk_42 (dk_at dksX2_addGuard_0 21 rfl rfl)
theorem dX2_addGuard_22 : decode cX2_addGuard 22 = .ok (.getfield 24, 3) := dk_180 0 24 (dk_at dksX2_addGuard_1 0 rfl rfl)
theorem dX2_addGuard_25 : decode cX2_addGuard 25 = .ok (.iconst (-1), 1) := dk_2 (dk_at dksX2_addGuard_1 3 rfl rfl)
theorem dX2_addGuard_26 : decode cX2_addGuard 26 = .ok (.invokestatic 119, 3) := dk_184 0 119 (dk_at dksX2_addGuard_1 4 rfl rfl)
theorem dX2_addGuard_29 : decode cX2_addGuard 29 = .ok (.invokevirtual 58, 3) := dk_182 0 58 (dk_at dksX2_addGuard_1 7 rfl rfl)
theorem dX2_addGuard_32 : decode cX2_addGuard 32 = .ok (.pop, 1) := dk_87 (dk_at dksX2_addGuard_1 10 rfl rfl)
theorem dX2_addGuard_33 : decode cX2_addGuard 33 = .ok (.aload_n 0, 1) := dk_42 (dk_at dksX2_addGuard_1 11 rfl rfl)
theorem dX2_addGuard_34 : decode cX2_addGuard 34 = .ok (.getfield 24, 3) := dk_180 0 24 (dk_at dksX2_addGuard_1 12 rfl rfl)
theorem dX2_addGuard_37 : decode cX2_addGuard 37 = .ok (.invokevirtual 95, 3) := dk_182 0 95 (dk_at dksX2_addGuard_1 15 rfl rfl)
theorem dX2_addGuard_40 : decode cX2_addGuard 40 = .ok (.iconst 1, 1) := dk_4 (dk_at dksX2_addGuard_1 18 rfl rfl)
theorem dX2_addGuard_41 : decode cX2_addGuard 41 = .ok (.isub, 1) := dk_100 (dk_at dksX2_addGuard_1 19 rfl rfl)
theorem dX2_addGuard_42 : decode cX2_addGuard 42 = .ok (.ireturn, 1) := dk_172 (dk_at dksX2_addGuard_1 20 rfl rfl)
abbrev cX2_isGuard : ByteArray := prog_5_method_5_code
def yX2_isGuard : MethodName := ⟨RX2, "isGuard", "(I)Z"⟩
def dkwX2_isGuard_0 : List UInt8 := [27, 3, 42, 180, 0, 24, 182, 0, 95, 4, 100, 184, 0, 99, 172]
abbrev dktX2_isGuard_0 : List UInt8 := dkwX2_isGuard_0 ++ []
theorem dksX2_isGuard_0 : cX2_isGuard.data.toList.drop 0 = dktX2_isGuard_0 := by decide +kernel
theorem dX2_isGuard_0 : decode cX2_isGuard 0 = .ok (.iload_n 1, 1) := dk_27 (dk_at dksX2_isGuard_0 0 rfl rfl)
theorem dX2_isGuard_1 : decode cX2_isGuard 1 = .ok (.iconst 0, 1) := dk_3 (dk_at dksX2_isGuard_0 1 rfl rfl)
theorem dX2_isGuard_2 : decode cX2_isGuard 2 = .ok (.aload_n 0, 1) := dk_42 (dk_at dksX2_isGuard_0 2 rfl rfl)
theorem dX2_isGuard_3 : decode cX2_isGuard 3 = .ok (.getfield 24, 3) := dk_180 0 24 (dk_at dksX2_isGuard_0 3 rfl rfl)
theorem dX2_isGuard_6 : decode cX2_isGuard 6 = .ok (.invokevirtual 95, 3) := dk_182 0 95 (dk_at dksX2_isGuard_0 6 rfl rfl)
theorem dX2_isGuard_9 : decode cX2_isGuard 9 = .ok (.iconst 1, 1) := dk_4 (dk_at dksX2_isGuard_0 9 rfl rfl)
theorem dX2_isGuard_10 : decode cX2_isGuard 10 = .ok (.isub, 1) := dk_100 (dk_at dksX2_isGuard_0 10 rfl rfl)
theorem dX2_isGuard_11 : decode cX2_isGuard 11 = .ok (.invokestatic 99, 3) := dk_184 0 99 (dk_at dksX2_isGuard_0 11 rfl rfl)
theorem dX2_isGuard_14 : decode cX2_isGuard 14 = .ok (.ireturn, 1) := dk_172 (dk_at dksX2_isGuard_0 14 rfl rfl)
abbrev cX2_place : ByteArray := prog_5_method_29_code
def yX2_place : MethodName := ⟨RX2, "place", "(II)I"⟩
def dkwX2_place_1 : List UInt8 := [192, 0, 120, 58, 4, 42, 180, 0, 24, 27, 28, 184, 0, 119, 182, 0, 252, 192, 0, 120, 58, 4, 29, 172]
abbrev dktX2_place_1 : List UInt8 := dkwX2_place_1 ++ []
def dkwX2_place_0 : List UInt8 := [42, 28, 182, 0, 205, 62, 29, 2, 159, 0, 20, 42, 180, 0, 24, 29, 2, 184, 0, 119, 182, 0, 252]
abbrev dktX2_place_0 : List UInt8 := dkwX2_place_0 ++ dktX2_place_1
theorem dksX2_place_0 : cX2_place.data.toList.drop 0 = dktX2_place_0 := by decide +kernel
theorem dksX2_place_1 : cX2_place.data.toList.drop 23 = dktX2_place_1 := dk_seg dksX2_place_0 23 rfl rfl
theorem dX2_place_0 : decode cX2_place 0 = .ok (.aload_n 0, 1) := dk_42 (dk_at dksX2_place_0 0 rfl rfl)
theorem dX2_place_1 : decode cX2_place 1 = .ok (.iload_n 2, 1) := dk_28 (dk_at dksX2_place_0 1 rfl rfl)
theorem dX2_place_2 : decode cX2_place 2 = .ok (.invokevirtual 205, 3) := dk_182 0 205 (dk_at dksX2_place_0 2 rfl rfl)
theorem dX2_place_5 : decode cX2_place 5 = .ok (.istore_n 3, 1) := dk_62 (dk_at dksX2_place_0 5 rfl rfl)
theorem dX2_place_6 : decode cX2_place 6 = .ok (.iload_n 3, 1) := dk_29 (dk_at dksX2_place_0 6 rfl rfl)
theorem dX2_place_7 : decode cX2_place 7 = .ok (.iconst (-1), 1) := dk_2 (dk_at dksX2_place_0 7 rfl rfl)
theorem dX2_place_8 : decode cX2_place 8 = .ok (.if_icmp .eq 20, 3) := dk_159 0 20 (dk_at dksX2_place_0 8 rfl rfl)
theorem dX2_place_11 : decode cX2_place 11 = .ok (.aload_n 0, 1) := dk_42 (dk_at dksX2_place_0 11 rfl rfl)
theorem dX2_place_12 : decode cX2_place 12 = .ok (.getfield 24, 3) := dk_180 0 24 (dk_at dksX2_place_0 12 rfl rfl)
theorem dX2_place_15 : decode cX2_place 15 = .ok (.iload_n 3, 1) := dk_29 (dk_at dksX2_place_0 15 rfl rfl)
theorem dX2_place_16 : decode cX2_place 16 = .ok (.iconst (-1), 1) := dk_2 (dk_at dksX2_place_0 16 rfl rfl)
theorem dX2_place_17 : decode cX2_place 17 = .ok (.invokestatic 119, 3) := dk_184 0 119 (dk_at dksX2_place_0 17 rfl rfl)
theorem dX2_place_20 : decode cX2_place 20 = .ok (.invokevirtual 252, 3) := dk_182 0 252 (dk_at dksX2_place_0 20 rfl rfl)
theorem dX2_place_23 : decode cX2_place 23 = .ok (.checkcast 120, 3) := dk_192 0 120 (dk_at dksX2_place_1 0 rfl rfl)
theorem dX2_place_26 : decode cX2_place 26 = .ok (.astore 4, 2) := dk_58 4 (dk_at dksX2_place_1 3 rfl rfl)
theorem dX2_place_28 : decode cX2_place 28 = .ok (.aload_n 0, 1) := dk_42 (dk_at dksX2_place_1 5 rfl rfl)
theorem dX2_place_29 : decode cX2_place 29 = .ok (.getfield 24, 3) := dk_180 0 24 (dk_at dksX2_place_1 6 rfl rfl)
theorem dX2_place_32 : decode cX2_place 32 = .ok (.iload_n 1, 1) := dk_27 (dk_at dksX2_place_1 9 rfl rfl)
theorem dX2_place_33 : decode cX2_place 33 = .ok (.iload_n 2, 1) := dk_28 (dk_at dksX2_place_1 10 rfl rfl)
theorem dX2_place_34 : decode cX2_place 34 = .ok (.invokestatic 119, 3) := dk_184 0 119 (dk_at dksX2_place_1 11 rfl rfl)
theorem dX2_place_37 : decode cX2_place 37 = .ok (.invokevirtual 252, 3) := dk_182 0 252 (dk_at dksX2_place_1 14 rfl rfl)
theorem dX2_place_40 : decode cX2_place 40 = .ok (.checkcast 120, 3) := dk_192 0 120 (dk_at dksX2_place_1 17 rfl rfl)
theorem dX2_place_43 : decode cX2_place 43 = .ok (.astore 4, 2) := dk_58 4 (dk_at dksX2_place_1 20 rfl rfl)
theorem dX2_place_45 : decode cX2_place 45 = .ok (.iload_n 3, 1) := dk_29 (dk_at dksX2_place_1 22 rfl rfl)
theorem dX2_place_46 : decode cX2_place 46 = .ok (.ireturn, 1) := dk_172 (dk_at dksX2_place_1 23 rfl rfl)
abbrev cX2_book : ByteArray := prog_5_method_30_code
def yX2_book : MethodName := ⟨RX2, "book", "(IIII)I"⟩
def dkwX2_book_4 : List UInt8 := [100, 172]
abbrev dktX2_book_4 : List UInt8 := dkwX2_book_4 ++ []
def dkwX2_book_3 : List UInt8 := [187, 0, 67, 89, 27, 28, 29, 21, 4, 183, 1, 3, 182, 0, 58, 87, 42, 180, 0, 21, 182, 0, 95, 4]
abbrev dktX2_book_3 : List UInt8 := dkwX2_book_3 ++ dktX2_book_4
def dkwX2_book_2 : List UInt8 := [180, 0, 92, 163, 0, 7, 4, 167, 0, 4, 3, 16, 12, 42, 180, 0, 92, 184, 0, 139, 42, 180, 0, 21]
abbrev dktX2_book_2 : List UInt8 := dkwX2_book_2 ++ dktX2_book_3
def dkwX2_book_1 : List UInt8 := [180, 0, 21, 182, 0, 95, 16, 20, 160, 0, 7, 4, 167, 0, 4, 3, 4, 16, 20, 184, 0, 139, 27, 42]
abbrev dktX2_book_1 : List UInt8 := dkwX2_book_1 ++ dktX2_book_2
def dkwX2_book_0 : List UInt8 := [42, 3, 182, 1, 0, 16, 6, 160, 0, 7, 4, 167, 0, 4, 3, 4, 16, 6, 184, 0, 139, 42]
abbrev dktX2_book_0 : List UInt8 := dkwX2_book_0 ++ dktX2_book_1
theorem dksX2_book_0 : cX2_book.data.toList.drop 0 = dktX2_book_0 := by decide +kernel
theorem dksX2_book_1 : cX2_book.data.toList.drop 22 = dktX2_book_1 := dk_seg dksX2_book_0 22 rfl rfl
theorem dksX2_book_2 : cX2_book.data.toList.drop 46 = dktX2_book_2 := dk_seg dksX2_book_1 24 rfl rfl
theorem dksX2_book_3 : cX2_book.data.toList.drop 70 = dktX2_book_3 := dk_seg dksX2_book_2 24 rfl rfl
theorem dksX2_book_4 : cX2_book.data.toList.drop 94 = dktX2_book_4 := dk_seg dksX2_book_3 24 rfl rfl
theorem dX2_book_0 : decode cX2_book 0 = .ok (.aload_n 0, 1) := dk_42 (dk_at dksX2_book_0 0 rfl rfl)
theorem dX2_book_1 : decode cX2_book 1 = .ok (.iconst 0, 1) := dk_3 (dk_at dksX2_book_0 1 rfl rfl)
theorem dX2_book_2 : decode cX2_book 2 = .ok (.invokevirtual 256, 3) := dk_182 1 0 (dk_at dksX2_book_0 2 rfl rfl)
theorem dX2_book_5 : decode cX2_book 5 = .ok (.bipush 6, 2) := dk_16 6 (dk_at dksX2_book_0 5 rfl rfl)
theorem dX2_book_7 : decode cX2_book 7 = .ok (.if_icmp .ne 7, 3) := dk_160 0 7 (dk_at dksX2_book_0 7 rfl rfl)
theorem dX2_book_10 : decode cX2_book 10 = .ok (.iconst 1, 1) := dk_4 (dk_at dksX2_book_0 10 rfl rfl)
theorem dX2_book_11 : decode cX2_book 11 = .ok (.goto 4, 3) := dk_167 0 4 (dk_at dksX2_book_0 11 rfl rfl)
theorem dX2_book_14 : decode cX2_book 14 = .ok (.iconst 0, 1) := dk_3 (dk_at dksX2_book_0 14 rfl rfl)
theorem dX2_book_15 : decode cX2_book 15 = .ok (.iconst 1, 1) := dk_4 (dk_at dksX2_book_0 15 rfl rfl)
theorem dX2_book_16 : decode cX2_book 16 = .ok (.bipush 6, 2) := dk_16 6 (dk_at dksX2_book_0 16 rfl rfl)
theorem dX2_book_18 : decode cX2_book 18 = .ok (.invokestatic 139, 3) := dk_184 0 139 (dk_at dksX2_book_0 18 rfl rfl)
theorem dX2_book_21 : decode cX2_book 21 = .ok (.aload_n 0, 1) := dk_42 (dk_at dksX2_book_0 21 rfl rfl)
theorem dX2_book_22 : decode cX2_book 22 = .ok (.getfield 21, 3) := dk_180 0 21 (dk_at dksX2_book_1 0 rfl rfl)
theorem dX2_book_25 : decode cX2_book 25 = .ok (.invokevirtual 95, 3) := dk_182 0 95 (dk_at dksX2_book_1 3 rfl rfl)
theorem dX2_book_28 : decode cX2_book 28 = .ok (.bipush 20, 2) := dk_16 20 (dk_at dksX2_book_1 6 rfl rfl)
theorem dX2_book_30 : decode cX2_book 30 = .ok (.if_icmp .ne 7, 3) := dk_160 0 7 (dk_at dksX2_book_1 8 rfl rfl)
theorem dX2_book_33 : decode cX2_book 33 = .ok (.iconst 1, 1) := dk_4 (dk_at dksX2_book_1 11 rfl rfl)
theorem dX2_book_34 : decode cX2_book 34 = .ok (.goto 4, 3) := dk_167 0 4 (dk_at dksX2_book_1 12 rfl rfl)
theorem dX2_book_37 : decode cX2_book 37 = .ok (.iconst 0, 1) := dk_3 (dk_at dksX2_book_1 15 rfl rfl)
theorem dX2_book_38 : decode cX2_book 38 = .ok (.iconst 1, 1) := dk_4 (dk_at dksX2_book_1 16 rfl rfl)
theorem dX2_book_39 : decode cX2_book 39 = .ok (.bipush 20, 2) := dk_16 20 (dk_at dksX2_book_1 17 rfl rfl)
theorem dX2_book_41 : decode cX2_book 41 = .ok (.invokestatic 139, 3) := dk_184 0 139 (dk_at dksX2_book_1 19 rfl rfl)
theorem dX2_book_44 : decode cX2_book 44 = .ok (.iload_n 1, 1) := dk_27 (dk_at dksX2_book_1 22 rfl rfl)
theorem dX2_book_45 : decode cX2_book 45 = .ok (.aload_n 0, 1) := dk_42 (dk_at dksX2_book_1 23 rfl rfl)
theorem dX2_book_46 : decode cX2_book 46 = .ok (.getfield 92, 3) := dk_180 0 92 (dk_at dksX2_book_2 0 rfl rfl)
theorem dX2_book_49 : decode cX2_book 49 = .ok (.if_icmp .gt 7, 3) := dk_163 0 7 (dk_at dksX2_book_2 3 rfl rfl)
theorem dX2_book_52 : decode cX2_book 52 = .ok (.iconst 1, 1) := dk_4 (dk_at dksX2_book_2 6 rfl rfl)
theorem dX2_book_53 : decode cX2_book 53 = .ok (.goto 4, 3) := dk_167 0 4 (dk_at dksX2_book_2 7 rfl rfl)
theorem dX2_book_56 : decode cX2_book 56 = .ok (.iconst 0, 1) := dk_3 (dk_at dksX2_book_2 10 rfl rfl)
theorem dX2_book_57 : decode cX2_book 57 = .ok (.bipush 12, 2) := dk_16 12 (dk_at dksX2_book_2 11 rfl rfl)
theorem dX2_book_59 : decode cX2_book 59 = .ok (.aload_n 0, 1) := dk_42 (dk_at dksX2_book_2 13 rfl rfl)
theorem dX2_book_60 : decode cX2_book 60 = .ok (.getfield 92, 3) := dk_180 0 92 (dk_at dksX2_book_2 14 rfl rfl)
theorem dX2_book_63 : decode cX2_book 63 = .ok (.invokestatic 139, 3) := dk_184 0 139 (dk_at dksX2_book_2 17 rfl rfl)
theorem dX2_book_66 : decode cX2_book 66 = .ok (.aload_n 0, 1) := dk_42 (dk_at dksX2_book_2 20 rfl rfl)
theorem dX2_book_67 : decode cX2_book 67 = .ok (.getfield 21, 3) := dk_180 0 21 (dk_at dksX2_book_2 21 rfl rfl)
theorem dX2_book_70 : decode cX2_book 70 = .ok (.new 67, 3) := dk_187 0 67 (dk_at dksX2_book_3 0 rfl rfl)
theorem dX2_book_73 : decode cX2_book 73 = .ok (.dup, 1) := dk_89 (dk_at dksX2_book_3 3 rfl rfl)
theorem dX2_book_74 : decode cX2_book 74 = .ok (.iload_n 1, 1) := dk_27 (dk_at dksX2_book_3 4 rfl rfl)
theorem dX2_book_75 : decode cX2_book 75 = .ok (.iload_n 2, 1) := dk_28 (dk_at dksX2_book_3 5 rfl rfl)
theorem dX2_book_76 : decode cX2_book 76 = .ok (.iload_n 3, 1) := dk_29 (dk_at dksX2_book_3 6 rfl rfl)
theorem dX2_book_77 : decode cX2_book 77 = .ok (.iload 4, 2) := dk_21 4 (dk_at dksX2_book_3 7 rfl rfl)
theorem dX2_book_79 : decode cX2_book 79 = .ok (.invokespecial 259, 3) := dk_183 1 3 (dk_at dksX2_book_3 9 rfl rfl)
theorem dX2_book_82 : decode cX2_book 82 = .ok (.invokevirtual 58, 3) := dk_182 0 58 (dk_at dksX2_book_3 12 rfl rfl)
theorem dX2_book_85 : decode cX2_book 85 = .ok (.pop, 1) := dk_87 (dk_at dksX2_book_3 15 rfl rfl)
theorem dX2_book_86 : decode cX2_book 86 = .ok (.aload_n 0, 1) := dk_42 (dk_at dksX2_book_3 16 rfl rfl)
theorem dX2_book_87 : decode cX2_book 87 = .ok (.getfield 21, 3) := dk_180 0 21 (dk_at dksX2_book_3 17 rfl rfl)
theorem dX2_book_90 : decode cX2_book 90 = .ok (.invokevirtual 95, 3) := dk_182 0 95 (dk_at dksX2_book_3 20 rfl rfl)
theorem dX2_book_93 : decode cX2_book 93 = .ok (.iconst 1, 1) := dk_4 (dk_at dksX2_book_3 23 rfl rfl)
theorem dX2_book_94 : decode cX2_book 94 = .ok (.isub, 1) := dk_100 (dk_at dksX2_book_4 0 rfl rfl)
theorem dX2_book_95 : decode cX2_book 95 = .ok (.ireturn, 1) := dk_172 (dk_at dksX2_book_4 1 rfl rfl)
abbrev cX2_partiesIn : ByteArray := prog_5_method_11_code
def yX2_partiesIn : MethodName := ⟨RX2, "partiesIn", "(I)I"⟩
def dkwX2_partiesIn_2 : List UInt8 := [3, 96, 61, 167, 255, 219, 28, 172]
abbrev dktX2_partiesIn_2 : List UInt8 := dkwX2_partiesIn_2 ++ []
def dkwX2_partiesIn_1 : List UInt8 := [185, 0, 48, 1, 0, 192, 0, 67, 58, 4, 28, 25, 4, 180, 0, 129, 27, 160, 0, 7, 4, 167, 0, 4]
abbrev dktX2_partiesIn_1 : List UInt8 := dkwX2_partiesIn_1 ++ dktX2_partiesIn_2
def dkwX2_partiesIn_0 : List UInt8 := [3, 61, 42, 180, 0, 21, 182, 0, 38, 78, 45, 185, 0, 42, 1, 0, 153, 0, 34, 45]
abbrev dktX2_partiesIn_0 : List UInt8 := dkwX2_partiesIn_0 ++ dktX2_partiesIn_1
theorem dksX2_partiesIn_0 : cX2_partiesIn.data.toList.drop 0 = dktX2_partiesIn_0 := by decide +kernel
theorem dksX2_partiesIn_1 : cX2_partiesIn.data.toList.drop 20 = dktX2_partiesIn_1 := dk_seg dksX2_partiesIn_0 20 rfl rfl
theorem dksX2_partiesIn_2 : cX2_partiesIn.data.toList.drop 44 = dktX2_partiesIn_2 := dk_seg dksX2_partiesIn_1 24 rfl rfl
theorem dX2_partiesIn_0 : decode cX2_partiesIn 0 = .ok (.iconst 0, 1) := dk_3 (dk_at dksX2_partiesIn_0 0 rfl rfl)
theorem dX2_partiesIn_1 : decode cX2_partiesIn 1 = .ok (.istore_n 2, 1) := dk_61 (dk_at dksX2_partiesIn_0 1 rfl rfl)
theorem dX2_partiesIn_2 : decode cX2_partiesIn 2 = .ok (.aload_n 0, 1) := dk_42 (dk_at dksX2_partiesIn_0 2 rfl rfl)
theorem dX2_partiesIn_3 : decode cX2_partiesIn 3 = .ok (.getfield 21, 3) := dk_180 0 21 (dk_at dksX2_partiesIn_0 3 rfl rfl)
theorem dX2_partiesIn_6 : decode cX2_partiesIn 6 = .ok (.invokevirtual 38, 3) := dk_182 0 38 (dk_at dksX2_partiesIn_0 6 rfl rfl)
theorem dX2_partiesIn_9 : decode cX2_partiesIn 9 = .ok (.astore_n 3, 1) := dk_78 (dk_at dksX2_partiesIn_0 9 rfl rfl)
theorem dX2_partiesIn_10 : decode cX2_partiesIn 10 = .ok (.aload_n 3, 1) := dk_45 (dk_at dksX2_partiesIn_0 10 rfl rfl)
theorem dX2_partiesIn_11 : decode cX2_partiesIn 11 = .ok (.invokeinterface 42 1, 5) := by decide +kernel
theorem dX2_partiesIn_16 : decode cX2_partiesIn 16 = .ok (.ifCond .eq 34, 3) := dk_153 0 34 (dk_at dksX2_partiesIn_0 16 rfl rfl)
theorem dX2_partiesIn_19 : decode cX2_partiesIn 19 = .ok (.aload_n 3, 1) := dk_45 (dk_at dksX2_partiesIn_0 19 rfl rfl)
theorem dX2_partiesIn_20 : decode cX2_partiesIn 20 = .ok (.invokeinterface 48 1, 5) := by decide +kernel
theorem dX2_partiesIn_25 : decode cX2_partiesIn 25 = .ok (.checkcast 67, 3) := dk_192 0 67 (dk_at dksX2_partiesIn_1 5 rfl rfl)
theorem dX2_partiesIn_28 : decode cX2_partiesIn 28 = .ok (.astore 4, 2) := dk_58 4 (dk_at dksX2_partiesIn_1 8 rfl rfl)
theorem dX2_partiesIn_30 : decode cX2_partiesIn 30 = .ok (.iload_n 2, 1) := dk_28 (dk_at dksX2_partiesIn_1 10 rfl rfl)
theorem dX2_partiesIn_31 : decode cX2_partiesIn 31 = .ok (.aload 4, 2) := dk_25 4 (dk_at dksX2_partiesIn_1 11 rfl rfl)
theorem dX2_partiesIn_33 : decode cX2_partiesIn 33 = .ok (.getfield 129, 3) := dk_180 0 129 (dk_at dksX2_partiesIn_1 13 rfl rfl)
theorem dX2_partiesIn_36 : decode cX2_partiesIn 36 = .ok (.iload_n 1, 1) := dk_27 (dk_at dksX2_partiesIn_1 16 rfl rfl)
theorem dX2_partiesIn_37 : decode cX2_partiesIn 37 = .ok (.if_icmp .ne 7, 3) := dk_160 0 7 (dk_at dksX2_partiesIn_1 17 rfl rfl)
theorem dX2_partiesIn_40 : decode cX2_partiesIn 40 = .ok (.iconst 1, 1) := dk_4 (dk_at dksX2_partiesIn_1 20 rfl rfl)
theorem dX2_partiesIn_41 : decode cX2_partiesIn 41 = .ok (.goto 4, 3) := dk_167 0 4 (dk_at dksX2_partiesIn_1 21 rfl rfl)
theorem dX2_partiesIn_44 : decode cX2_partiesIn 44 = .ok (.iconst 0, 1) := dk_3 (dk_at dksX2_partiesIn_2 0 rfl rfl)
theorem dX2_partiesIn_45 : decode cX2_partiesIn 45 = .ok (.iadd, 1) := dk_96 (dk_at dksX2_partiesIn_2 1 rfl rfl)
theorem dX2_partiesIn_46 : decode cX2_partiesIn 46 = .ok (.istore_n 2, 1) := dk_61 (dk_at dksX2_partiesIn_2 2 rfl rfl)
theorem dX2_partiesIn_47 : decode cX2_partiesIn 47 = .ok (.goto (-37), 3) := dk_167 255 219 (dk_at dksX2_partiesIn_2 3 rfl rfl)
theorem dX2_partiesIn_50 : decode cX2_partiesIn 50 = .ok (.iload_n 2, 1) := dk_28 (dk_at dksX2_partiesIn_2 6 rfl rfl)
theorem dX2_partiesIn_51 : decode cX2_partiesIn 51 = .ok (.ireturn, 1) := dk_172 (dk_at dksX2_partiesIn_2 7 rfl rfl)
abbrev cX2_cancel : ByteArray := prog_5_method_31_code
def yX2_cancel : MethodName := ⟨RX2, "cancel", "(I)I"⟩
def dkwX2_cancel_1 : List UInt8 := [16, 11, 44, 180, 0, 129, 184, 0, 139, 44, 5, 181, 0, 129, 42, 3, 182, 1, 0, 172]
abbrev dktX2_cancel_1 : List UInt8 := dkwX2_cancel_1 ++ []
def dkwX2_cancel_0 : List UInt8 := [42, 180, 0, 21, 27, 182, 0, 144, 192, 0, 67, 77, 44, 182, 1, 4, 154, 0, 7, 4, 167, 0, 4, 3]
abbrev dktX2_cancel_0 : List UInt8 := dkwX2_cancel_0 ++ dktX2_cancel_1
theorem dksX2_cancel_0 : cX2_cancel.data.toList.drop 0 = dktX2_cancel_0 := by decide +kernel
theorem dksX2_cancel_1 : cX2_cancel.data.toList.drop 24 = dktX2_cancel_1 := dk_seg dksX2_cancel_0 24 rfl rfl
theorem dX2_cancel_0 : decode cX2_cancel 0 = .ok (.aload_n 0, 1) := dk_42 (dk_at dksX2_cancel_0 0 rfl rfl)
theorem dX2_cancel_1 : decode cX2_cancel 1 = .ok (.getfield 21, 3) := dk_180 0 21 (dk_at dksX2_cancel_0 1 rfl rfl)
theorem dX2_cancel_4 : decode cX2_cancel 4 = .ok (.iload_n 1, 1) := dk_27 (dk_at dksX2_cancel_0 4 rfl rfl)
theorem dX2_cancel_5 : decode cX2_cancel 5 = .ok (.invokevirtual 144, 3) := dk_182 0 144 (dk_at dksX2_cancel_0 5 rfl rfl)
theorem dX2_cancel_8 : decode cX2_cancel 8 = .ok (.checkcast 67, 3) := dk_192 0 67 (dk_at dksX2_cancel_0 8 rfl rfl)
theorem dX2_cancel_11 : decode cX2_cancel 11 = .ok (.astore_n 2, 1) := dk_77 (dk_at dksX2_cancel_0 11 rfl rfl)
theorem dX2_cancel_12 : decode cX2_cancel 12 = .ok (.aload_n 2, 1) := dk_44 (dk_at dksX2_cancel_0 12 rfl rfl)
theorem dX2_cancel_13 : decode cX2_cancel 13 = .ok (.invokevirtual 260, 3) := dk_182 1 4 (dk_at dksX2_cancel_0 13 rfl rfl)
theorem dX2_cancel_16 : decode cX2_cancel 16 = .ok (.ifCond .ne 7, 3) := dk_154 0 7 (dk_at dksX2_cancel_0 16 rfl rfl)
theorem dX2_cancel_19 : decode cX2_cancel 19 = .ok (.iconst 1, 1) := dk_4 (dk_at dksX2_cancel_0 19 rfl rfl)
theorem dX2_cancel_20 : decode cX2_cancel 20 = .ok (.goto 4, 3) := dk_167 0 4 (dk_at dksX2_cancel_0 20 rfl rfl)
theorem dX2_cancel_23 : decode cX2_cancel 23 = .ok (.iconst 0, 1) := dk_3 (dk_at dksX2_cancel_0 23 rfl rfl)
theorem dX2_cancel_24 : decode cX2_cancel 24 = .ok (.bipush 11, 2) := dk_16 11 (dk_at dksX2_cancel_1 0 rfl rfl)
theorem dX2_cancel_26 : decode cX2_cancel 26 = .ok (.aload_n 2, 1) := dk_44 (dk_at dksX2_cancel_1 2 rfl rfl)
theorem dX2_cancel_27 : decode cX2_cancel 27 = .ok (.getfield 129, 3) := dk_180 0 129 (dk_at dksX2_cancel_1 3 rfl rfl)
theorem dX2_cancel_30 : decode cX2_cancel 30 = .ok (.invokestatic 139, 3) := dk_184 0 139 (dk_at dksX2_cancel_1 6 rfl rfl)
theorem dX2_cancel_33 : decode cX2_cancel 33 = .ok (.aload_n 2, 1) := dk_44 (dk_at dksX2_cancel_1 9 rfl rfl)
theorem dX2_cancel_34 : decode cX2_cancel 34 = .ok (.iconst 2, 1) := dk_5 (dk_at dksX2_cancel_1 10 rfl rfl)
theorem dX2_cancel_35 : decode cX2_cancel 35 = .ok (.putfield 129, 3) := dk_181 0 129 (dk_at dksX2_cancel_1 11 rfl rfl)
theorem dX2_cancel_38 : decode cX2_cancel 38 = .ok (.aload_n 0, 1) := dk_42 (dk_at dksX2_cancel_1 14 rfl rfl)
theorem dX2_cancel_39 : decode cX2_cancel 39 = .ok (.iconst 0, 1) := dk_3 (dk_at dksX2_cancel_1 15 rfl rfl)
theorem dX2_cancel_40 : decode cX2_cancel 40 = .ok (.invokevirtual 256, 3) := dk_182 1 0 (dk_at dksX2_cancel_1 16 rfl rfl)
theorem dX2_cancel_43 : decode cX2_cancel 43 = .ok (.ireturn, 1) := dk_172 (dk_at dksX2_cancel_1 19 rfl rfl)
abbrev cX2_nextParty : ByteArray := prog_5_method_32_code
def yX2_nextParty : MethodName := ⟨RX2, "nextParty", "()I"⟩
def dkwX2_nextParty_3 : List UInt8 := [167, 255, 191, 27, 172]
abbrev dktX2_nextParty_3 : List UInt8 := dkwX2_nextParty_3 ++ []
def dkwX2_nextParty_2 : List UInt8 := [27, 182, 0, 144, 192, 0, 67, 180, 1, 7, 162, 0, 7, 28, 167, 0, 4, 27, 60, 132, 2, 1]
abbrev dktX2_nextParty_2 : List UInt8 := dkwX2_nextParty_2 ++ dktX2_nextParty_3
def dkwX2_nextParty_1 : List UInt8 := [192, 0, 67, 78, 45, 182, 1, 4, 153, 0, 33, 27, 2, 159, 0, 24, 45, 180, 1, 7, 42, 180, 0, 21]
abbrev dktX2_nextParty_1 : List UInt8 := dkwX2_nextParty_1 ++ dktX2_nextParty_2
def dkwX2_nextParty_0 : List UInt8 := [2, 60, 3, 61, 28, 42, 180, 0, 21, 182, 0, 95, 162, 0, 60, 42, 180, 0, 21, 28, 182, 0, 144]
abbrev dktX2_nextParty_0 : List UInt8 := dkwX2_nextParty_0 ++ dktX2_nextParty_1
theorem dksX2_nextParty_0 : cX2_nextParty.data.toList.drop 0 = dktX2_nextParty_0 := by decide +kernel
theorem dksX2_nextParty_1 : cX2_nextParty.data.toList.drop 23 = dktX2_nextParty_1 := dk_seg dksX2_nextParty_0 23 rfl rfl
theorem dksX2_nextParty_2 : cX2_nextParty.data.toList.drop 47 = dktX2_nextParty_2 := dk_seg dksX2_nextParty_1 24 rfl rfl
theorem dksX2_nextParty_3 : cX2_nextParty.data.toList.drop 69 = dktX2_nextParty_3 := dk_seg dksX2_nextParty_2 22 rfl rfl
theorem dX2_nextParty_0 : decode cX2_nextParty 0 = .ok (.iconst (-1), 1) := dk_2 (dk_at dksX2_nextParty_0 0 rfl rfl)
theorem dX2_nextParty_1 : decode cX2_nextParty 1 = .ok (.istore_n 1, 1) := dk_60 (dk_at dksX2_nextParty_0 1 rfl rfl)
theorem dX2_nextParty_2 : decode cX2_nextParty 2 = .ok (.iconst 0, 1) := dk_3 (dk_at dksX2_nextParty_0 2 rfl rfl)
theorem dX2_nextParty_3 : decode cX2_nextParty 3 = .ok (.istore_n 2, 1) := dk_61 (dk_at dksX2_nextParty_0 3 rfl rfl)
theorem dX2_nextParty_4 : decode cX2_nextParty 4 = .ok (.iload_n 2, 1) := dk_28 (dk_at dksX2_nextParty_0 4 rfl rfl)
theorem dX2_nextParty_5 : decode cX2_nextParty 5 = .ok (.aload_n 0, 1) := dk_42 (dk_at dksX2_nextParty_0 5 rfl rfl)
theorem dX2_nextParty_6 : decode cX2_nextParty 6 = .ok (.getfield 21, 3) := dk_180 0 21 (dk_at dksX2_nextParty_0 6 rfl rfl)
theorem dX2_nextParty_9 : decode cX2_nextParty 9 = .ok (.invokevirtual 95, 3) := dk_182 0 95 (dk_at dksX2_nextParty_0 9 rfl rfl)
theorem dX2_nextParty_12 : decode cX2_nextParty 12 = .ok (.if_icmp .ge 60, 3) := dk_162 0 60 (dk_at dksX2_nextParty_0 12 rfl rfl)
theorem dX2_nextParty_15 : decode cX2_nextParty 15 = .ok (.aload_n 0, 1) := dk_42 (dk_at dksX2_nextParty_0 15 rfl rfl)
theorem dX2_nextParty_16 : decode cX2_nextParty 16 = .ok (.getfield 21, 3) := dk_180 0 21 (dk_at dksX2_nextParty_0 16 rfl rfl)
theorem dX2_nextParty_19 : decode cX2_nextParty 19 = .ok (.iload_n 2, 1) := dk_28 (dk_at dksX2_nextParty_0 19 rfl rfl)
theorem dX2_nextParty_20 : decode cX2_nextParty 20 = .ok (.invokevirtual 144, 3) := dk_182 0 144 (dk_at dksX2_nextParty_0 20 rfl rfl)
theorem dX2_nextParty_23 : decode cX2_nextParty 23 = .ok (.checkcast 67, 3) := dk_192 0 67 (dk_at dksX2_nextParty_1 0 rfl rfl)
theorem dX2_nextParty_26 : decode cX2_nextParty 26 = .ok (.astore_n 3, 1) := dk_78 (dk_at dksX2_nextParty_1 3 rfl rfl)
theorem dX2_nextParty_27 : decode cX2_nextParty 27 = .ok (.aload_n 3, 1) := dk_45 (dk_at dksX2_nextParty_1 4 rfl rfl)
theorem dX2_nextParty_28 : decode cX2_nextParty 28 = .ok (.invokevirtual 260, 3) := dk_182 1 4 (dk_at dksX2_nextParty_1 5 rfl rfl)
theorem dX2_nextParty_31 : decode cX2_nextParty 31 = .ok (.ifCond .eq 33, 3) := dk_153 0 33 (dk_at dksX2_nextParty_1 8 rfl rfl)
theorem dX2_nextParty_34 : decode cX2_nextParty 34 = .ok (.iload_n 1, 1) := dk_27 (dk_at dksX2_nextParty_1 11 rfl rfl)
theorem dX2_nextParty_35 : decode cX2_nextParty 35 = .ok (.iconst (-1), 1) := dk_2 (dk_at dksX2_nextParty_1 12 rfl rfl)
theorem dX2_nextParty_36 : decode cX2_nextParty 36 = .ok (.if_icmp .eq 24, 3) := dk_159 0 24 (dk_at dksX2_nextParty_1 13 rfl rfl)
theorem dX2_nextParty_39 : decode cX2_nextParty 39 = .ok (.aload_n 3, 1) := dk_45 (dk_at dksX2_nextParty_1 16 rfl rfl)
theorem dX2_nextParty_40 : decode cX2_nextParty 40 = .ok (.getfield 263, 3) := dk_180 1 7 (dk_at dksX2_nextParty_1 17 rfl rfl)
theorem dX2_nextParty_43 : decode cX2_nextParty 43 = .ok (.aload_n 0, 1) := dk_42 (dk_at dksX2_nextParty_1 20 rfl rfl)
theorem dX2_nextParty_44 : decode cX2_nextParty 44 = .ok (.getfield 21, 3) := dk_180 0 21 (dk_at dksX2_nextParty_1 21 rfl rfl)
theorem dX2_nextParty_47 : decode cX2_nextParty 47 = .ok (.iload_n 1, 1) := dk_27 (dk_at dksX2_nextParty_2 0 rfl rfl)
theorem dX2_nextParty_48 : decode cX2_nextParty 48 = .ok (.invokevirtual 144, 3) := dk_182 0 144 (dk_at dksX2_nextParty_2 1 rfl rfl)
theorem dX2_nextParty_51 : decode cX2_nextParty 51 = .ok (.checkcast 67, 3) := dk_192 0 67 (dk_at dksX2_nextParty_2 4 rfl rfl)
theorem dX2_nextParty_54 : decode cX2_nextParty 54 = .ok (.getfield 263, 3) := dk_180 1 7 (dk_at dksX2_nextParty_2 7 rfl rfl)
theorem dX2_nextParty_57 : decode cX2_nextParty 57 = .ok (.if_icmp .ge 7, 3) := dk_162 0 7 (dk_at dksX2_nextParty_2 10 rfl rfl)
theorem dX2_nextParty_60 : decode cX2_nextParty 60 = .ok (.iload_n 2, 1) := dk_28 (dk_at dksX2_nextParty_2 13 rfl rfl)
theorem dX2_nextParty_61 : decode cX2_nextParty 61 = .ok (.goto 4, 3) := dk_167 0 4 (dk_at dksX2_nextParty_2 14 rfl rfl)
theorem dX2_nextParty_64 : decode cX2_nextParty 64 = .ok (.iload_n 1, 1) := dk_27 (dk_at dksX2_nextParty_2 17 rfl rfl)
theorem dX2_nextParty_65 : decode cX2_nextParty 65 = .ok (.istore_n 1, 1) := dk_60 (dk_at dksX2_nextParty_2 18 rfl rfl)
theorem dX2_nextParty_66 : decode cX2_nextParty 66 = .ok (.iinc 2 1, 3) := dk_132 2 1 (dk_at dksX2_nextParty_2 19 rfl rfl)
theorem dX2_nextParty_69 : decode cX2_nextParty 69 = .ok (.goto (-65), 3) := dk_167 255 191 (dk_at dksX2_nextParty_3 0 rfl rfl)
theorem dX2_nextParty_72 : decode cX2_nextParty 72 = .ok (.iload_n 1, 1) := dk_27 (dk_at dksX2_nextParty_3 3 rfl rfl)
theorem dX2_nextParty_73 : decode cX2_nextParty 73 = .ok (.ireturn, 1) := dk_172 (dk_at dksX2_nextParty_3 4 rfl rfl)
abbrev cX2_pass : ByteArray := prog_5_method_37_code
def yX2_pass : MethodName := ⟨RX2, "pass", "(I)I"⟩
def dkwX2_pass_0 : List UInt8 := [3, 61, 3, 62, 29, 27, 162, 0, 16, 28, 42, 182, 1, 32, 96, 61, 132, 3, 1, 167, 255, 241, 28, 172]
abbrev dktX2_pass_0 : List UInt8 := dkwX2_pass_0 ++ []
theorem dksX2_pass_0 : cX2_pass.data.toList.drop 0 = dktX2_pass_0 := by decide +kernel
theorem dX2_pass_0 : decode cX2_pass 0 = .ok (.iconst 0, 1) := dk_3 (dk_at dksX2_pass_0 0 rfl rfl)
theorem dX2_pass_1 : decode cX2_pass 1 = .ok (.istore_n 2, 1) := dk_61 (dk_at dksX2_pass_0 1 rfl rfl)
theorem dX2_pass_2 : decode cX2_pass 2 = .ok (.iconst 0, 1) := dk_3 (dk_at dksX2_pass_0 2 rfl rfl)
theorem dX2_pass_3 : decode cX2_pass 3 = .ok (.istore_n 3, 1) := dk_62 (dk_at dksX2_pass_0 3 rfl rfl)
theorem dX2_pass_4 : decode cX2_pass 4 = .ok (.iload_n 3, 1) := dk_29 (dk_at dksX2_pass_0 4 rfl rfl)
theorem dX2_pass_5 : decode cX2_pass 5 = .ok (.iload_n 1, 1) := dk_27 (dk_at dksX2_pass_0 5 rfl rfl)
theorem dX2_pass_6 : decode cX2_pass 6 = .ok (.if_icmp .ge 16, 3) := dk_162 0 16 (dk_at dksX2_pass_0 6 rfl rfl)
theorem dX2_pass_9 : decode cX2_pass 9 = .ok (.iload_n 2, 1) := dk_28 (dk_at dksX2_pass_0 9 rfl rfl)
theorem dX2_pass_10 : decode cX2_pass 10 = .ok (.aload_n 0, 1) := dk_42 (dk_at dksX2_pass_0 10 rfl rfl)
theorem dX2_pass_11 : decode cX2_pass 11 = .ok (.invokevirtual 288, 3) := dk_182 1 32 (dk_at dksX2_pass_0 11 rfl rfl)
theorem dX2_pass_14 : decode cX2_pass 14 = .ok (.iadd, 1) := dk_96 (dk_at dksX2_pass_0 14 rfl rfl)
theorem dX2_pass_15 : decode cX2_pass 15 = .ok (.istore_n 2, 1) := dk_61 (dk_at dksX2_pass_0 15 rfl rfl)
theorem dX2_pass_16 : decode cX2_pass 16 = .ok (.iinc 3 1, 3) := dk_132 3 1 (dk_at dksX2_pass_0 16 rfl rfl)
theorem dX2_pass_19 : decode cX2_pass 19 = .ok (.goto (-15), 3) := dk_167 255 241 (dk_at dksX2_pass_0 19 rfl rfl)
theorem dX2_pass_22 : decode cX2_pass 22 = .ok (.iload_n 2, 1) := dk_28 (dk_at dksX2_pass_0 22 rfl rfl)
theorem dX2_pass_23 : decode cX2_pass 23 = .ok (.ireturn, 1) := dk_172 (dk_at dksX2_pass_0 23 rfl rfl)
abbrev cX2_minuteGoesBy : ByteArray := prog_5_method_36_code
def yX2_minuteGoesBy : MethodName := ⟨RX2, "minuteGoesBy", "()I"⟩
def dkwX2_minuteGoesBy_5 : List UInt8 := [180, 0, 92, 160, 0, 8, 42, 28, 182, 1, 29, 132, 2, 1, 167, 255, 199, 27, 172]
abbrev dktX2_minuteGoesBy_5 : List UInt8 := dkwX2_minuteGoesBy_5 ++ []
def dkwX2_minuteGoesBy_4 : List UInt8 := [192, 0, 67, 182, 1, 4, 153, 0, 29, 42, 180, 0, 21, 28, 182, 0, 144, 192, 0, 67, 180, 1, 7, 42]
abbrev dktX2_minuteGoesBy_4 : List UInt8 := dkwX2_minuteGoesBy_4 ++ dktX2_minuteGoesBy_5
def dkwX2_minuteGoesBy_3 : List UInt8 := [181, 0, 92, 3, 61, 28, 42, 180, 0, 21, 182, 0, 95, 162, 0, 52, 42, 180, 0, 21, 28, 182, 0, 144]
abbrev dktX2_minuteGoesBy_3 : List UInt8 := dkwX2_minuteGoesBy_3 ++ dktX2_minuteGoesBy_4
def dkwX2_minuteGoesBy_2 : List UInt8 := [182, 1, 26, 167, 0, 4, 3, 96, 60, 132, 2, 1, 167, 255, 208, 42, 89, 180, 0, 92, 4, 96]
abbrev dktX2_minuteGoesBy_2 : List UInt8 := dkwX2_minuteGoesBy_2 ++ dktX2_minuteGoesBy_3
def dkwX2_minuteGoesBy_1 : List UInt8 := [182, 0, 166, 42, 180, 0, 12, 28, 182, 0, 144, 192, 0, 52, 182, 0, 160, 164, 0, 11, 42, 28]
abbrev dktX2_minuteGoesBy_1 : List UInt8 := dkwX2_minuteGoesBy_1 ++ dktX2_minuteGoesBy_2
def dkwX2_minuteGoesBy_0 : List UInt8 := [42, 182, 1, 23, 3, 60, 3, 61, 28, 42, 180, 0, 12, 182, 0, 95, 162, 0, 43, 27, 42, 28]
abbrev dktX2_minuteGoesBy_0 : List UInt8 := dkwX2_minuteGoesBy_0 ++ dktX2_minuteGoesBy_1
theorem dksX2_minuteGoesBy_0 : cX2_minuteGoesBy.data.toList.drop 0 = dktX2_minuteGoesBy_0 := by decide +kernel
theorem dksX2_minuteGoesBy_1 : cX2_minuteGoesBy.data.toList.drop 22 = dktX2_minuteGoesBy_1 := dk_seg dksX2_minuteGoesBy_0 22 rfl rfl
theorem dksX2_minuteGoesBy_2 : cX2_minuteGoesBy.data.toList.drop 44 = dktX2_minuteGoesBy_2 := dk_seg dksX2_minuteGoesBy_1 22 rfl rfl
theorem dksX2_minuteGoesBy_3 : cX2_minuteGoesBy.data.toList.drop 66 = dktX2_minuteGoesBy_3 := dk_seg dksX2_minuteGoesBy_2 22 rfl rfl
theorem dksX2_minuteGoesBy_4 : cX2_minuteGoesBy.data.toList.drop 90 = dktX2_minuteGoesBy_4 := dk_seg dksX2_minuteGoesBy_3 24 rfl rfl
theorem dksX2_minuteGoesBy_5 : cX2_minuteGoesBy.data.toList.drop 114 = dktX2_minuteGoesBy_5 := dk_seg dksX2_minuteGoesBy_4 24 rfl rfl
theorem dX2_minuteGoesBy_0 : decode cX2_minuteGoesBy 0 = .ok (.aload_n 0, 1) := dk_42 (dk_at dksX2_minuteGoesBy_0 0 rfl rfl)
theorem dX2_minuteGoesBy_1 : decode cX2_minuteGoesBy 1 = .ok (.invokevirtual 279, 3) := dk_182 1 23 (dk_at dksX2_minuteGoesBy_0 1 rfl rfl)
theorem dX2_minuteGoesBy_4 : decode cX2_minuteGoesBy 4 = .ok (.iconst 0, 1) := dk_3 (dk_at dksX2_minuteGoesBy_0 4 rfl rfl)
theorem dX2_minuteGoesBy_5 : decode cX2_minuteGoesBy 5 = .ok (.istore_n 1, 1) := dk_60 (dk_at dksX2_minuteGoesBy_0 5 rfl rfl)
theorem dX2_minuteGoesBy_6 : decode cX2_minuteGoesBy 6 = .ok (.iconst 0, 1) := dk_3 (dk_at dksX2_minuteGoesBy_0 6 rfl rfl)
theorem dX2_minuteGoesBy_7 : decode cX2_minuteGoesBy 7 = .ok (.istore_n 2, 1) := dk_61 (dk_at dksX2_minuteGoesBy_0 7 rfl rfl)
theorem dX2_minuteGoesBy_8 : decode cX2_minuteGoesBy 8 = .ok (.iload_n 2, 1) := dk_28 (dk_at dksX2_minuteGoesBy_0 8 rfl rfl)
theorem dX2_minuteGoesBy_9 : decode cX2_minuteGoesBy 9 = .ok (.aload_n 0, 1) := dk_42 (dk_at dksX2_minuteGoesBy_0 9 rfl rfl)
theorem dX2_minuteGoesBy_10 : decode cX2_minuteGoesBy 10 = .ok (.getfield 12, 3) := dk_180 0 12 (dk_at dksX2_minuteGoesBy_0 10 rfl rfl)
theorem dX2_minuteGoesBy_13 : decode cX2_minuteGoesBy 13 = .ok (.invokevirtual 95, 3) := dk_182 0 95 (dk_at dksX2_minuteGoesBy_0 13 rfl rfl)
theorem dX2_minuteGoesBy_16 : decode cX2_minuteGoesBy 16 = .ok (.if_icmp .ge 43, 3) := dk_162 0 43 (dk_at dksX2_minuteGoesBy_0 16 rfl rfl)
theorem dX2_minuteGoesBy_19 : decode cX2_minuteGoesBy 19 = .ok (.iload_n 1, 1) := dk_27 (dk_at dksX2_minuteGoesBy_0 19 rfl rfl)
theorem dX2_minuteGoesBy_20 : decode cX2_minuteGoesBy 20 = .ok (.aload_n 0, 1) := dk_42 (dk_at dksX2_minuteGoesBy_0 20 rfl rfl)
theorem dX2_minuteGoesBy_21 : decode cX2_minuteGoesBy 21 = .ok (.iload_n 2, 1) := dk_28 (dk_at dksX2_minuteGoesBy_0 21 rfl rfl)
theorem dX2_minuteGoesBy_22 : decode cX2_minuteGoesBy 22 = .ok (.invokevirtual 166, 3) := dk_182 0 166 (dk_at dksX2_minuteGoesBy_1 0 rfl rfl)
theorem dX2_minuteGoesBy_25 : decode cX2_minuteGoesBy 25 = .ok (.aload_n 0, 1) := dk_42 (dk_at dksX2_minuteGoesBy_1 3 rfl rfl)
theorem dX2_minuteGoesBy_26 : decode cX2_minuteGoesBy 26 = .ok (.getfield 12, 3) := dk_180 0 12 (dk_at dksX2_minuteGoesBy_1 4 rfl rfl)
theorem dX2_minuteGoesBy_29 : decode cX2_minuteGoesBy 29 = .ok (.iload_n 2, 1) := dk_28 (dk_at dksX2_minuteGoesBy_1 7 rfl rfl)
theorem dX2_minuteGoesBy_30 : decode cX2_minuteGoesBy 30 = .ok (.invokevirtual 144, 3) := dk_182 0 144 (dk_at dksX2_minuteGoesBy_1 8 rfl rfl)
theorem dX2_minuteGoesBy_33 : decode cX2_minuteGoesBy 33 = .ok (.checkcast 52, 3) := dk_192 0 52 (dk_at dksX2_minuteGoesBy_1 11 rfl rfl)
theorem dX2_minuteGoesBy_36 : decode cX2_minuteGoesBy 36 = .ok (.invokevirtual 160, 3) := dk_182 0 160 (dk_at dksX2_minuteGoesBy_1 14 rfl rfl)
theorem dX2_minuteGoesBy_39 : decode cX2_minuteGoesBy 39 = .ok (.if_icmp .le 11, 3) := dk_164 0 11 (dk_at dksX2_minuteGoesBy_1 17 rfl rfl)
theorem dX2_minuteGoesBy_42 : decode cX2_minuteGoesBy 42 = .ok (.aload_n 0, 1) := dk_42 (dk_at dksX2_minuteGoesBy_1 20 rfl rfl)
theorem dX2_minuteGoesBy_43 : decode cX2_minuteGoesBy 43 = .ok (.iload_n 2, 1) := dk_28 (dk_at dksX2_minuteGoesBy_1 21 rfl rfl)
theorem dX2_minuteGoesBy_44 : decode cX2_minuteGoesBy 44 = .ok (.invokevirtual 282, 3) := dk_182 1 26 (dk_at dksX2_minuteGoesBy_2 0 rfl rfl)
theorem dX2_minuteGoesBy_47 : decode cX2_minuteGoesBy 47 = .ok (.goto 4, 3) := dk_167 0 4 (dk_at dksX2_minuteGoesBy_2 3 rfl rfl)
theorem dX2_minuteGoesBy_50 : decode cX2_minuteGoesBy 50 = .ok (.iconst 0, 1) := dk_3 (dk_at dksX2_minuteGoesBy_2 6 rfl rfl)
theorem dX2_minuteGoesBy_51 : decode cX2_minuteGoesBy 51 = .ok (.iadd, 1) := dk_96 (dk_at dksX2_minuteGoesBy_2 7 rfl rfl)
theorem dX2_minuteGoesBy_52 : decode cX2_minuteGoesBy 52 = .ok (.istore_n 1, 1) := dk_60 (dk_at dksX2_minuteGoesBy_2 8 rfl rfl)
theorem dX2_minuteGoesBy_53 : decode cX2_minuteGoesBy 53 = .ok (.iinc 2 1, 3) := dk_132 2 1 (dk_at dksX2_minuteGoesBy_2 9 rfl rfl)
theorem dX2_minuteGoesBy_56 : decode cX2_minuteGoesBy 56 = .ok (.goto (-48), 3) := dk_167 255 208 (dk_at dksX2_minuteGoesBy_2 12 rfl rfl)
theorem dX2_minuteGoesBy_59 : decode cX2_minuteGoesBy 59 = .ok (.aload_n 0, 1) := dk_42 (dk_at dksX2_minuteGoesBy_2 15 rfl rfl)
theorem dX2_minuteGoesBy_60 : decode cX2_minuteGoesBy 60 = .ok (.dup, 1) := dk_89 (dk_at dksX2_minuteGoesBy_2 16 rfl rfl)
theorem dX2_minuteGoesBy_61 : decode cX2_minuteGoesBy 61 = .ok (.getfield 92, 3) := dk_180 0 92 (dk_at dksX2_minuteGoesBy_2 17 rfl rfl)
theorem dX2_minuteGoesBy_64 : decode cX2_minuteGoesBy 64 = .ok (.iconst 1, 1) := dk_4 (dk_at dksX2_minuteGoesBy_2 20 rfl rfl)
theorem dX2_minuteGoesBy_65 : decode cX2_minuteGoesBy 65 = .ok (.iadd, 1) := dk_96 (dk_at dksX2_minuteGoesBy_2 21 rfl rfl)
theorem dX2_minuteGoesBy_66 : decode cX2_minuteGoesBy 66 = .ok (.putfield 92, 3) := dk_181 0 92 (dk_at dksX2_minuteGoesBy_3 0 rfl rfl)
theorem dX2_minuteGoesBy_69 : decode cX2_minuteGoesBy 69 = .ok (.iconst 0, 1) := dk_3 (dk_at dksX2_minuteGoesBy_3 3 rfl rfl)
theorem dX2_minuteGoesBy_70 : decode cX2_minuteGoesBy 70 = .ok (.istore_n 2, 1) := dk_61 (dk_at dksX2_minuteGoesBy_3 4 rfl rfl)
theorem dX2_minuteGoesBy_71 : decode cX2_minuteGoesBy 71 = .ok (.iload_n 2, 1) := dk_28 (dk_at dksX2_minuteGoesBy_3 5 rfl rfl)
theorem dX2_minuteGoesBy_72 : decode cX2_minuteGoesBy 72 = .ok (.aload_n 0, 1) := dk_42 (dk_at dksX2_minuteGoesBy_3 6 rfl rfl)
theorem dX2_minuteGoesBy_73 : decode cX2_minuteGoesBy 73 = .ok (.getfield 21, 3) := dk_180 0 21 (dk_at dksX2_minuteGoesBy_3 7 rfl rfl)
theorem dX2_minuteGoesBy_76 : decode cX2_minuteGoesBy 76 = .ok (.invokevirtual 95, 3) := dk_182 0 95 (dk_at dksX2_minuteGoesBy_3 10 rfl rfl)
theorem dX2_minuteGoesBy_79 : decode cX2_minuteGoesBy 79 = .ok (.if_icmp .ge 52, 3) := dk_162 0 52 (dk_at dksX2_minuteGoesBy_3 13 rfl rfl)
theorem dX2_minuteGoesBy_82 : decode cX2_minuteGoesBy 82 = .ok (.aload_n 0, 1) := dk_42 (dk_at dksX2_minuteGoesBy_3 16 rfl rfl)
theorem dX2_minuteGoesBy_83 : decode cX2_minuteGoesBy 83 = .ok (.getfield 21, 3) := dk_180 0 21 (dk_at dksX2_minuteGoesBy_3 17 rfl rfl)
theorem dX2_minuteGoesBy_86 : decode cX2_minuteGoesBy 86 = .ok (.iload_n 2, 1) := dk_28 (dk_at dksX2_minuteGoesBy_3 20 rfl rfl)
theorem dX2_minuteGoesBy_87 : decode cX2_minuteGoesBy 87 = .ok (.invokevirtual 144, 3) := dk_182 0 144 (dk_at dksX2_minuteGoesBy_3 21 rfl rfl)
theorem dX2_minuteGoesBy_90 : decode cX2_minuteGoesBy 90 = .ok (.checkcast 67, 3) := dk_192 0 67 (dk_at dksX2_minuteGoesBy_4 0 rfl rfl)
theorem dX2_minuteGoesBy_93 : decode cX2_minuteGoesBy 93 = .ok (.invokevirtual 260, 3) := dk_182 1 4 (dk_at dksX2_minuteGoesBy_4 3 rfl rfl)
theorem dX2_minuteGoesBy_96 : decode cX2_minuteGoesBy 96 = .ok (.ifCond .eq 29, 3) := dk_153 0 29 (dk_at dksX2_minuteGoesBy_4 6 rfl rfl)
theorem dX2_minuteGoesBy_99 : decode cX2_minuteGoesBy 99 = .ok (.aload_n 0, 1) := dk_42 (dk_at dksX2_minuteGoesBy_4 9 rfl rfl)
theorem dX2_minuteGoesBy_100 : decode cX2_minuteGoesBy 100 = .ok (.getfield 21, 3) := dk_180 0 21 (dk_at dksX2_minuteGoesBy_4 10 rfl rfl)
theorem dX2_minuteGoesBy_103 : decode cX2_minuteGoesBy 103 = .ok (.iload_n 2, 1) := dk_28 (dk_at dksX2_minuteGoesBy_4 13 rfl rfl)
theorem dX2_minuteGoesBy_104 : decode cX2_minuteGoesBy 104 = .ok (.invokevirtual 144, 3) := dk_182 0 144 (dk_at dksX2_minuteGoesBy_4 14 rfl rfl)
theorem dX2_minuteGoesBy_107 : decode cX2_minuteGoesBy 107 = .ok (.checkcast 67, 3) := dk_192 0 67 (dk_at dksX2_minuteGoesBy_4 17 rfl rfl)
theorem dX2_minuteGoesBy_110 : decode cX2_minuteGoesBy 110 = .ok (.getfield 263, 3) := dk_180 1 7 (dk_at dksX2_minuteGoesBy_4 20 rfl rfl)
theorem dX2_minuteGoesBy_113 : decode cX2_minuteGoesBy 113 = .ok (.aload_n 0, 1) := dk_42 (dk_at dksX2_minuteGoesBy_4 23 rfl rfl)
theorem dX2_minuteGoesBy_114 : decode cX2_minuteGoesBy 114 = .ok (.getfield 92, 3) := dk_180 0 92 (dk_at dksX2_minuteGoesBy_5 0 rfl rfl)
theorem dX2_minuteGoesBy_117 : decode cX2_minuteGoesBy 117 = .ok (.if_icmp .ne 8, 3) := dk_160 0 8 (dk_at dksX2_minuteGoesBy_5 3 rfl rfl)
theorem dX2_minuteGoesBy_120 : decode cX2_minuteGoesBy 120 = .ok (.aload_n 0, 1) := dk_42 (dk_at dksX2_minuteGoesBy_5 6 rfl rfl)
theorem dX2_minuteGoesBy_121 : decode cX2_minuteGoesBy 121 = .ok (.iload_n 2, 1) := dk_28 (dk_at dksX2_minuteGoesBy_5 7 rfl rfl)
theorem dX2_minuteGoesBy_122 : decode cX2_minuteGoesBy 122 = .ok (.invokevirtual 285, 3) := dk_182 1 29 (dk_at dksX2_minuteGoesBy_5 8 rfl rfl)
theorem dX2_minuteGoesBy_125 : decode cX2_minuteGoesBy 125 = .ok (.iinc 2 1, 3) := dk_132 2 1 (dk_at dksX2_minuteGoesBy_5 11 rfl rfl)
theorem dX2_minuteGoesBy_128 : decode cX2_minuteGoesBy 128 = .ok (.goto (-57), 3) := dk_167 255 199 (dk_at dksX2_minuteGoesBy_5 14 rfl rfl)
theorem dX2_minuteGoesBy_131 : decode cX2_minuteGoesBy 131 = .ok (.iload_n 1, 1) := dk_27 (dk_at dksX2_minuteGoesBy_5 17 rfl rfl)
theorem dX2_minuteGoesBy_132 : decode cX2_minuteGoesBy 132 = .ok (.ireturn, 1) := dk_172 (dk_at dksX2_minuteGoesBy_5 18 rfl rfl)
abbrev cX2_wearMats : ByteArray := prog_5_method_33_code
def yX2_wearMats : MethodName := ⟨RX2, "wearMats", "()V"⟩
def dkwX2_wearMats_3 : List UInt8 := [180, 1, 8, 4, 96, 181, 1, 8, 167, 255, 201, 132, 1, 1, 167, 255, 176, 177]
abbrev dktX2_wearMats_3 : List UInt8 := dkwX2_wearMats_3 ++ []
def dkwX2_wearMats_2 : List UInt8 := [153, 0, 31, 42, 180, 0, 12, 27, 182, 0, 144, 192, 0, 52, 45, 180, 0, 109, 182, 0, 174, 45, 89]
abbrev dktX2_wearMats_2 : List UInt8 := dkwX2_wearMats_2 ++ dktX2_wearMats_3
def dkwX2_wearMats_1 : List UInt8 := [185, 0, 42, 1, 0, 153, 0, 52, 44, 185, 0, 48, 1, 0, 192, 0, 62, 78, 45, 27, 182, 0, 170]
abbrev dktX2_wearMats_1 : List UInt8 := dkwX2_wearMats_1 ++ dktX2_wearMats_2
def dkwX2_wearMats_0 : List UInt8 := [3, 60, 27, 42, 180, 0, 12, 182, 0, 95, 162, 0, 75, 42, 180, 0, 18, 182, 0, 38, 77, 44]
abbrev dktX2_wearMats_0 : List UInt8 := dkwX2_wearMats_0 ++ dktX2_wearMats_1
theorem dksX2_wearMats_0 : cX2_wearMats.data.toList.drop 0 = dktX2_wearMats_0 := by decide +kernel
theorem dksX2_wearMats_1 : cX2_wearMats.data.toList.drop 22 = dktX2_wearMats_1 := dk_seg dksX2_wearMats_0 22 rfl rfl
theorem dksX2_wearMats_2 : cX2_wearMats.data.toList.drop 45 = dktX2_wearMats_2 := dk_seg dksX2_wearMats_1 23 rfl rfl
theorem dksX2_wearMats_3 : cX2_wearMats.data.toList.drop 68 = dktX2_wearMats_3 := dk_seg dksX2_wearMats_2 23 rfl rfl
theorem dX2_wearMats_0 : decode cX2_wearMats 0 = .ok (.iconst 0, 1) := dk_3 (dk_at dksX2_wearMats_0 0 rfl rfl)
theorem dX2_wearMats_1 : decode cX2_wearMats 1 = .ok (.istore_n 1, 1) := dk_60 (dk_at dksX2_wearMats_0 1 rfl rfl)
theorem dX2_wearMats_2 : decode cX2_wearMats 2 = .ok (.iload_n 1, 1) := dk_27 (dk_at dksX2_wearMats_0 2 rfl rfl)
theorem dX2_wearMats_3 : decode cX2_wearMats 3 = .ok (.aload_n 0, 1) := dk_42 (dk_at dksX2_wearMats_0 3 rfl rfl)
theorem dX2_wearMats_4 : decode cX2_wearMats 4 = .ok (.getfield 12, 3) := dk_180 0 12 (dk_at dksX2_wearMats_0 4 rfl rfl)
theorem dX2_wearMats_7 : decode cX2_wearMats 7 = .ok (.invokevirtual 95, 3) := dk_182 0 95 (dk_at dksX2_wearMats_0 7 rfl rfl)
theorem dX2_wearMats_10 : decode cX2_wearMats 10 = .ok (.if_icmp .ge 75, 3) := dk_162 0 75 (dk_at dksX2_wearMats_0 10 rfl rfl)
theorem dX2_wearMats_13 : decode cX2_wearMats 13 = .ok (.aload_n 0, 1) := dk_42 (dk_at dksX2_wearMats_0 13 rfl rfl)
theorem dX2_wearMats_14 : decode cX2_wearMats 14 = .ok (.getfield 18, 3) := dk_180 0 18 (dk_at dksX2_wearMats_0 14 rfl rfl)
theorem dX2_wearMats_17 : decode cX2_wearMats 17 = .ok (.invokevirtual 38, 3) := dk_182 0 38 (dk_at dksX2_wearMats_0 17 rfl rfl)
theorem dX2_wearMats_20 : decode cX2_wearMats 20 = .ok (.astore_n 2, 1) := dk_77 (dk_at dksX2_wearMats_0 20 rfl rfl)
theorem dX2_wearMats_21 : decode cX2_wearMats 21 = .ok (.aload_n 2, 1) := dk_44 (dk_at dksX2_wearMats_0 21 rfl rfl)
theorem dX2_wearMats_22 : decode cX2_wearMats 22 = .ok (.invokeinterface 42 1, 5) := by decide +kernel
theorem dX2_wearMats_27 : decode cX2_wearMats 27 = .ok (.ifCond .eq 52, 3) := dk_153 0 52 (dk_at dksX2_wearMats_1 5 rfl rfl)
theorem dX2_wearMats_30 : decode cX2_wearMats 30 = .ok (.aload_n 2, 1) := dk_44 (dk_at dksX2_wearMats_1 8 rfl rfl)
theorem dX2_wearMats_31 : decode cX2_wearMats 31 = .ok (.invokeinterface 48 1, 5) := by decide +kernel
theorem dX2_wearMats_36 : decode cX2_wearMats 36 = .ok (.checkcast 62, 3) := dk_192 0 62 (dk_at dksX2_wearMats_1 14 rfl rfl)
theorem dX2_wearMats_39 : decode cX2_wearMats 39 = .ok (.astore_n 3, 1) := dk_78 (dk_at dksX2_wearMats_1 17 rfl rfl)
theorem dX2_wearMats_40 : decode cX2_wearMats 40 = .ok (.aload_n 3, 1) := dk_45 (dk_at dksX2_wearMats_1 18 rfl rfl)
theorem dX2_wearMats_41 : decode cX2_wearMats 41 = .ok (.iload_n 1, 1) := dk_27 (dk_at dksX2_wearMats_1 19 rfl rfl)
theorem dX2_wearMats_42 : decode cX2_wearMats 42 = .ok (.invokevirtual 170, 3) := dk_182 0 170 (dk_at dksX2_wearMats_1 20 rfl rfl)
theorem dX2_wearMats_45 : decode cX2_wearMats 45 = .ok (.ifCond .eq 31, 3) := dk_153 0 31 (dk_at dksX2_wearMats_2 0 rfl rfl)
theorem dX2_wearMats_48 : decode cX2_wearMats 48 = .ok (.aload_n 0, 1) := dk_42 (dk_at dksX2_wearMats_2 3 rfl rfl)
theorem dX2_wearMats_49 : decode cX2_wearMats 49 = .ok (.getfield 12, 3) := dk_180 0 12 (dk_at dksX2_wearMats_2 4 rfl rfl)
theorem dX2_wearMats_52 : decode cX2_wearMats 52 = .ok (.iload_n 1, 1) := dk_27 (dk_at dksX2_wearMats_2 7 rfl rfl)
theorem dX2_wearMats_53 : decode cX2_wearMats 53 = .ok (.invokevirtual 144, 3) := dk_182 0 144 (dk_at dksX2_wearMats_2 8 rfl rfl)
theorem dX2_wearMats_56 : decode cX2_wearMats 56 = .ok (.checkcast 52, 3) := dk_192 0 52 (dk_at dksX2_wearMats_2 11 rfl rfl)
theorem dX2_wearMats_59 : decode cX2_wearMats 59 = .ok (.aload_n 3, 1) := dk_45 (dk_at dksX2_wearMats_2 14 rfl rfl)
theorem dX2_wearMats_60 : decode cX2_wearMats 60 = .ok (.getfield 109, 3) := dk_180 0 109 (dk_at dksX2_wearMats_2 15 rfl rfl)
theorem dX2_wearMats_63 : decode cX2_wearMats 63 = .ok (.invokevirtual 174, 3) := dk_182 0 174 (dk_at dksX2_wearMats_2 18 rfl rfl)
theorem dX2_wearMats_66 : decode cX2_wearMats 66 = .ok (.aload_n 3, 1) := dk_45 (dk_at dksX2_wearMats_2 21 rfl rfl)
theorem dX2_wearMats_67 : decode cX2_wearMats 67 = .ok (.dup, 1) := dk_89 (dk_at dksX2_wearMats_2 22 rfl rfl)
theorem dX2_wearMats_68 : decode cX2_wearMats 68 = .ok (.getfield 264, 3) := dk_180 1 8 (dk_at dksX2_wearMats_3 0 rfl rfl)
theorem dX2_wearMats_71 : decode cX2_wearMats 71 = .ok (.iconst 1, 1) := dk_4 (dk_at dksX2_wearMats_3 3 rfl rfl)
theorem dX2_wearMats_72 : decode cX2_wearMats 72 = .ok (.iadd, 1) := dk_96 (dk_at dksX2_wearMats_3 4 rfl rfl)
theorem dX2_wearMats_73 : decode cX2_wearMats 73 = .ok (.putfield 264, 3) := dk_181 1 8 (dk_at dksX2_wearMats_3 5 rfl rfl)
theorem dX2_wearMats_76 : decode cX2_wearMats 76 = .ok (.goto (-55), 3) := dk_167 255 201 (dk_at dksX2_wearMats_3 8 rfl rfl)
theorem dX2_wearMats_79 : decode cX2_wearMats 79 = .ok (.iinc 1 1, 3) := dk_132 1 1 (dk_at dksX2_wearMats_3 11 rfl rfl)
theorem dX2_wearMats_82 : decode cX2_wearMats 82 = .ok (.goto (-80), 3) := dk_167 255 176 (dk_at dksX2_wearMats_3 14 rfl rfl)
theorem dX2_wearMats_85 : decode cX2_wearMats 85 = .ok (.return_, 1) := dk_177 (dk_at dksX2_wearMats_3 17 rfl rfl)
abbrev cX2_clears : ByteArray := prog_5_method_34_code
def yX2_clears : MethodName := ⟨RX2, "clears", "(I)I"⟩
def dkwX2_clears_3 : List UInt8 := [180, 0, 86, 28, 96, 181, 0, 86, 28, 172]
abbrev dktX2_clears_3 : List UInt8 := dkwX2_clears_3 ++ []
def dkwX2_clears_2 : List UInt8 := [132, 2, 1, 167, 255, 219, 42, 180, 0, 12, 27, 182, 0, 144, 192, 0, 52, 4, 181, 0, 135, 42, 89]
abbrev dktX2_clears_2 : List UInt8 := dkwX2_clears_2 ++ dktX2_clears_3
def dkwX2_clears_1 : List UInt8 := [185, 0, 48, 1, 0, 192, 0, 62, 58, 4, 25, 4, 27, 182, 0, 170, 153, 0, 11, 25, 4, 182, 0, 220]
abbrev dktX2_clears_1 : List UInt8 := dkwX2_clears_1 ++ dktX2_clears_2
def dkwX2_clears_0 : List UInt8 := [3, 61, 42, 180, 0, 18, 182, 0, 38, 78, 45, 185, 0, 42, 1, 0, 153, 0, 34, 45]
abbrev dktX2_clears_0 : List UInt8 := dkwX2_clears_0 ++ dktX2_clears_1
theorem dksX2_clears_0 : cX2_clears.data.toList.drop 0 = dktX2_clears_0 := by decide +kernel
theorem dksX2_clears_1 : cX2_clears.data.toList.drop 20 = dktX2_clears_1 := dk_seg dksX2_clears_0 20 rfl rfl
theorem dksX2_clears_2 : cX2_clears.data.toList.drop 44 = dktX2_clears_2 := dk_seg dksX2_clears_1 24 rfl rfl
theorem dksX2_clears_3 : cX2_clears.data.toList.drop 67 = dktX2_clears_3 := dk_seg dksX2_clears_2 23 rfl rfl
theorem dX2_clears_0 : decode cX2_clears 0 = .ok (.iconst 0, 1) := dk_3 (dk_at dksX2_clears_0 0 rfl rfl)
theorem dX2_clears_1 : decode cX2_clears 1 = .ok (.istore_n 2, 1) := dk_61 (dk_at dksX2_clears_0 1 rfl rfl)
theorem dX2_clears_2 : decode cX2_clears 2 = .ok (.aload_n 0, 1) := dk_42 (dk_at dksX2_clears_0 2 rfl rfl)
theorem dX2_clears_3 : decode cX2_clears 3 = .ok (.getfield 18, 3) := dk_180 0 18 (dk_at dksX2_clears_0 3 rfl rfl)
theorem dX2_clears_6 : decode cX2_clears 6 = .ok (.invokevirtual 38, 3) := dk_182 0 38 (dk_at dksX2_clears_0 6 rfl rfl)
theorem dX2_clears_9 : decode cX2_clears 9 = .ok (.astore_n 3, 1) := dk_78 (dk_at dksX2_clears_0 9 rfl rfl)
theorem dX2_clears_10 : decode cX2_clears 10 = .ok (.aload_n 3, 1) := dk_45 (dk_at dksX2_clears_0 10 rfl rfl)
theorem dX2_clears_11 : decode cX2_clears 11 = .ok (.invokeinterface 42 1, 5) := by decide +kernel
theorem dX2_clears_16 : decode cX2_clears 16 = .ok (.ifCond .eq 34, 3) := dk_153 0 34 (dk_at dksX2_clears_0 16 rfl rfl)
theorem dX2_clears_19 : decode cX2_clears 19 = .ok (.aload_n 3, 1) := dk_45 (dk_at dksX2_clears_0 19 rfl rfl)
theorem dX2_clears_20 : decode cX2_clears 20 = .ok (.invokeinterface 48 1, 5) := by decide +kernel
theorem dX2_clears_25 : decode cX2_clears 25 = .ok (.checkcast 62, 3) := dk_192 0 62 (dk_at dksX2_clears_1 5 rfl rfl)
theorem dX2_clears_28 : decode cX2_clears 28 = .ok (.astore 4, 2) := dk_58 4 (dk_at dksX2_clears_1 8 rfl rfl)
theorem dX2_clears_30 : decode cX2_clears 30 = .ok (.aload 4, 2) := dk_25 4 (dk_at dksX2_clears_1 10 rfl rfl)
theorem dX2_clears_32 : decode cX2_clears 32 = .ok (.iload_n 1, 1) := dk_27 (dk_at dksX2_clears_1 12 rfl rfl)
theorem dX2_clears_33 : decode cX2_clears 33 = .ok (.invokevirtual 170, 3) := dk_182 0 170 (dk_at dksX2_clears_1 13 rfl rfl)
theorem dX2_clears_36 : decode cX2_clears 36 = .ok (.ifCond .eq 11, 3) := dk_153 0 11 (dk_at dksX2_clears_1 16 rfl rfl)
theorem dX2_clears_39 : decode cX2_clears 39 = .ok (.aload 4, 2) := dk_25 4 (dk_at dksX2_clears_1 19 rfl rfl)
theorem dX2_clears_41 : decode cX2_clears 41 = .ok (.invokevirtual 220, 3) := dk_182 0 220 (dk_at dksX2_clears_1 21 rfl rfl)
theorem dX2_clears_44 : decode cX2_clears 44 = .ok (.iinc 2 1, 3) := dk_132 2 1 (dk_at dksX2_clears_2 0 rfl rfl)
theorem dX2_clears_47 : decode cX2_clears 47 = .ok (.goto (-37), 3) := dk_167 255 219 (dk_at dksX2_clears_2 3 rfl rfl)
theorem dX2_clears_50 : decode cX2_clears 50 = .ok (.aload_n 0, 1) := dk_42 (dk_at dksX2_clears_2 6 rfl rfl)
theorem dX2_clears_51 : decode cX2_clears 51 = .ok (.getfield 12, 3) := dk_180 0 12 (dk_at dksX2_clears_2 7 rfl rfl)
theorem dX2_clears_54 : decode cX2_clears 54 = .ok (.iload_n 1, 1) := dk_27 (dk_at dksX2_clears_2 10 rfl rfl)
theorem dX2_clears_55 : decode cX2_clears 55 = .ok (.invokevirtual 144, 3) := dk_182 0 144 (dk_at dksX2_clears_2 11 rfl rfl)
theorem dX2_clears_58 : decode cX2_clears 58 = .ok (.checkcast 52, 3) := dk_192 0 52 (dk_at dksX2_clears_2 14 rfl rfl)
theorem dX2_clears_61 : decode cX2_clears 61 = .ok (.iconst 1, 1) := dk_4 (dk_at dksX2_clears_2 17 rfl rfl)
theorem dX2_clears_62 : decode cX2_clears 62 = .ok (.putfield 135, 3) := dk_181 0 135 (dk_at dksX2_clears_2 18 rfl rfl)
theorem dX2_clears_65 : decode cX2_clears 65 = .ok (.aload_n 0, 1) := dk_42 (dk_at dksX2_clears_2 21 rfl rfl)
theorem dX2_clears_66 : decode cX2_clears 66 = .ok (.dup, 1) := dk_89 (dk_at dksX2_clears_2 22 rfl rfl)
theorem dX2_clears_67 : decode cX2_clears 67 = .ok (.getfield 86, 3) := dk_180 0 86 (dk_at dksX2_clears_3 0 rfl rfl)
theorem dX2_clears_70 : decode cX2_clears 70 = .ok (.iload_n 2, 1) := dk_28 (dk_at dksX2_clears_3 3 rfl rfl)
theorem dX2_clears_71 : decode cX2_clears 71 = .ok (.iadd, 1) := dk_96 (dk_at dksX2_clears_3 4 rfl rfl)
theorem dX2_clears_72 : decode cX2_clears 72 = .ok (.putfield 86, 3) := dk_181 0 86 (dk_at dksX2_clears_3 5 rfl rfl)
theorem dX2_clears_75 : decode cX2_clears 75 = .ok (.iload_n 2, 1) := dk_28 (dk_at dksX2_clears_3 8 rfl rfl)
theorem dX2_clears_76 : decode cX2_clears 76 = .ok (.ireturn, 1) := dk_172 (dk_at dksX2_clears_3 9 rfl rfl)
abbrev cX2_comes : ByteArray := prog_5_method_35_code
def yX2_comes : MethodName := ⟨RX2, "comes", "(I)V"⟩
def dkwX2_comes_2 : List UInt8 := [96, 181, 1, 20, 167, 0, 6, 58, 4, 177, 132, 3, 1, 167, 255, 214, 177]
abbrev dktX2_comes_2 : List UInt8 := dkwX2_comes_2 ++ []
def dkwX2_comes_1 : List UInt8 := [162, 0, 40, 42, 44, 180, 1, 14, 44, 180, 1, 15, 27, 182, 1, 16, 54, 4, 44, 89, 180, 1, 20, 4]
abbrev dktX2_comes_1 : List UInt8 := dkwX2_comes_1 ++ dktX2_comes_2
def dkwX2_comes_0 : List UInt8 := [42, 180, 0, 21, 27, 182, 0, 144, 192, 0, 67, 77, 44, 4, 181, 0, 129, 3, 62, 29, 44, 180, 1, 11]
abbrev dktX2_comes_0 : List UInt8 := dkwX2_comes_0 ++ dktX2_comes_1
theorem dksX2_comes_0 : cX2_comes.data.toList.drop 0 = dktX2_comes_0 := by decide +kernel
theorem dksX2_comes_1 : cX2_comes.data.toList.drop 24 = dktX2_comes_1 := dk_seg dksX2_comes_0 24 rfl rfl
theorem dksX2_comes_2 : cX2_comes.data.toList.drop 48 = dktX2_comes_2 := dk_seg dksX2_comes_1 24 rfl rfl
theorem dX2_comes_0 : decode cX2_comes 0 = .ok (.aload_n 0, 1) := dk_42 (dk_at dksX2_comes_0 0 rfl rfl)
theorem dX2_comes_1 : decode cX2_comes 1 = .ok (.getfield 21, 3) := dk_180 0 21 (dk_at dksX2_comes_0 1 rfl rfl)
theorem dX2_comes_4 : decode cX2_comes 4 = .ok (.iload_n 1, 1) := dk_27 (dk_at dksX2_comes_0 4 rfl rfl)
theorem dX2_comes_5 : decode cX2_comes 5 = .ok (.invokevirtual 144, 3) := dk_182 0 144 (dk_at dksX2_comes_0 5 rfl rfl)
theorem dX2_comes_8 : decode cX2_comes 8 = .ok (.checkcast 67, 3) := dk_192 0 67 (dk_at dksX2_comes_0 8 rfl rfl)
theorem dX2_comes_11 : decode cX2_comes 11 = .ok (.astore_n 2, 1) := dk_77 (dk_at dksX2_comes_0 11 rfl rfl)
theorem dX2_comes_12 : decode cX2_comes 12 = .ok (.aload_n 2, 1) := dk_44 (dk_at dksX2_comes_0 12 rfl rfl)
theorem dX2_comes_13 : decode cX2_comes 13 = .ok (.iconst 1, 1) := dk_4 (dk_at dksX2_comes_0 13 rfl rfl)
theorem dX2_comes_14 : decode cX2_comes 14 = .ok (.putfield 129, 3) := dk_181 0 129 (dk_at dksX2_comes_0 14 rfl rfl)
theorem dX2_comes_17 : decode cX2_comes 17 = .ok (.iconst 0, 1) := dk_3 (dk_at dksX2_comes_0 17 rfl rfl)
theorem dX2_comes_18 : decode cX2_comes 18 = .ok (.istore_n 3, 1) := dk_62 (dk_at dksX2_comes_0 18 rfl rfl)
theorem dX2_comes_19 : decode cX2_comes 19 = .ok (.iload_n 3, 1) := dk_29 (dk_at dksX2_comes_0 19 rfl rfl)
theorem dX2_comes_20 : decode cX2_comes 20 = .ok (.aload_n 2, 1) := dk_44 (dk_at dksX2_comes_0 20 rfl rfl)
theorem dX2_comes_21 : decode cX2_comes 21 = .ok (.getfield 267, 3) := dk_180 1 11 (dk_at dksX2_comes_0 21 rfl rfl)
theorem dX2_comes_24 : decode cX2_comes 24 = .ok (.if_icmp .ge 40, 3) := dk_162 0 40 (dk_at dksX2_comes_1 0 rfl rfl)
theorem dX2_comes_27 : decode cX2_comes 27 = .ok (.aload_n 0, 1) := dk_42 (dk_at dksX2_comes_1 3 rfl rfl)
theorem dX2_comes_28 : decode cX2_comes 28 = .ok (.aload_n 2, 1) := dk_44 (dk_at dksX2_comes_1 4 rfl rfl)
theorem dX2_comes_29 : decode cX2_comes 29 = .ok (.getfield 270, 3) := dk_180 1 14 (dk_at dksX2_comes_1 5 rfl rfl)
theorem dX2_comes_32 : decode cX2_comes 32 = .ok (.aload_n 2, 1) := dk_44 (dk_at dksX2_comes_1 8 rfl rfl)
theorem dX2_comes_33 : decode cX2_comes 33 = .ok (.getfield 271, 3) := dk_180 1 15 (dk_at dksX2_comes_1 9 rfl rfl)
theorem dX2_comes_36 : decode cX2_comes 36 = .ok (.iload_n 1, 1) := dk_27 (dk_at dksX2_comes_1 12 rfl rfl)
theorem dX2_comes_37 : decode cX2_comes 37 = .ok (.invokevirtual 272, 3) := dk_182 1 16 (dk_at dksX2_comes_1 13 rfl rfl)
theorem dX2_comes_40 : decode cX2_comes 40 = .ok (.istore 4, 2) := dk_54 4 (dk_at dksX2_comes_1 16 rfl rfl)
theorem dX2_comes_42 : decode cX2_comes 42 = .ok (.aload_n 2, 1) := dk_44 (dk_at dksX2_comes_1 18 rfl rfl)
theorem dX2_comes_43 : decode cX2_comes 43 = .ok (.dup, 1) := dk_89 (dk_at dksX2_comes_1 19 rfl rfl)
theorem dX2_comes_44 : decode cX2_comes 44 = .ok (.getfield 276, 3) := dk_180 1 20 (dk_at dksX2_comes_1 20 rfl rfl)
theorem dX2_comes_47 : decode cX2_comes 47 = .ok (.iconst 1, 1) := dk_4 (dk_at dksX2_comes_1 23 rfl rfl)
theorem dX2_comes_48 : decode cX2_comes 48 = .ok (.iadd, 1) := dk_96 (dk_at dksX2_comes_2 0 rfl rfl)
theorem dX2_comes_49 : decode cX2_comes 49 = .ok (.putfield 276, 3) := dk_181 1 20 (dk_at dksX2_comes_2 1 rfl rfl)
theorem dX2_comes_52 : decode cX2_comes 52 = .ok (.goto 6, 3) := dk_167 0 6 (dk_at dksX2_comes_2 4 rfl rfl)
theorem dX2_comes_55 : decode cX2_comes 55 = .ok (.astore 4, 2) := dk_58 4 (dk_at dksX2_comes_2 7 rfl rfl)
theorem dX2_comes_57 : decode cX2_comes 57 = .ok (.return_, 1) := dk_177 (dk_at dksX2_comes_2 9 rfl rfl)
theorem dX2_comes_58 : decode cX2_comes 58 = .ok (.iinc 3 1, 3) := dk_132 3 1 (dk_at dksX2_comes_2 10 rfl rfl)
theorem dX2_comes_61 : decode cX2_comes 61 = .ok (.goto (-42), 3) := dk_167 255 214 (dk_at dksX2_comes_2 13 rfl rfl)
theorem dX2_comes_64 : decode cX2_comes 64 = .ok (.return_, 1) := dk_177 (dk_at dksX2_comes_2 16 rfl rfl)
abbrev cX2_brokenSprings : ByteArray := prog_5_method_12_code
def yX2_brokenSprings : MethodName := ⟨RX2, "brokenSprings", "()I"⟩
def dkwX2_brokenSprings_1 : List UInt8 := [185, 0, 48, 1, 0, 192, 0, 52, 78, 27, 45, 182, 0, 132, 96, 60, 167, 255, 230, 27, 172]
abbrev dktX2_brokenSprings_1 : List UInt8 := dkwX2_brokenSprings_1 ++ []
def dkwX2_brokenSprings_0 : List UInt8 := [3, 60, 42, 180, 0, 12, 182, 0, 38, 77, 44, 185, 0, 42, 1, 0, 153, 0, 23, 44]
abbrev dktX2_brokenSprings_0 : List UInt8 := dkwX2_brokenSprings_0 ++ dktX2_brokenSprings_1
theorem dksX2_brokenSprings_0 : cX2_brokenSprings.data.toList.drop 0 = dktX2_brokenSprings_0 := by decide +kernel
theorem dksX2_brokenSprings_1 : cX2_brokenSprings.data.toList.drop 20 = dktX2_brokenSprings_1 := dk_seg dksX2_brokenSprings_0 20 rfl rfl
theorem dX2_brokenSprings_0 : decode cX2_brokenSprings 0 = .ok (.iconst 0, 1) := dk_3 (dk_at dksX2_brokenSprings_0 0 rfl rfl)
theorem dX2_brokenSprings_1 : decode cX2_brokenSprings 1 = .ok (.istore_n 1, 1) := dk_60 (dk_at dksX2_brokenSprings_0 1 rfl rfl)
theorem dX2_brokenSprings_2 : decode cX2_brokenSprings 2 = .ok (.aload_n 0, 1) := dk_42 (dk_at dksX2_brokenSprings_0 2 rfl rfl)
theorem dX2_brokenSprings_3 : decode cX2_brokenSprings 3 = .ok (.getfield 12, 3) := dk_180 0 12 (dk_at dksX2_brokenSprings_0 3 rfl rfl)
theorem dX2_brokenSprings_6 : decode cX2_brokenSprings 6 = .ok (.invokevirtual 38, 3) := dk_182 0 38 (dk_at dksX2_brokenSprings_0 6 rfl rfl)
theorem dX2_brokenSprings_9 : decode cX2_brokenSprings 9 = .ok (.astore_n 2, 1) := dk_77 (dk_at dksX2_brokenSprings_0 9 rfl rfl)
theorem dX2_brokenSprings_10 : decode cX2_brokenSprings 10 = .ok (.aload_n 2, 1) := dk_44 (dk_at dksX2_brokenSprings_0 10 rfl rfl)
theorem dX2_brokenSprings_11 : decode cX2_brokenSprings 11 = .ok (.invokeinterface 42 1, 5) := by decide +kernel
theorem dX2_brokenSprings_16 : decode cX2_brokenSprings 16 = .ok (.ifCond .eq 23, 3) := dk_153 0 23 (dk_at dksX2_brokenSprings_0 16 rfl rfl)
theorem dX2_brokenSprings_19 : decode cX2_brokenSprings 19 = .ok (.aload_n 2, 1) := dk_44 (dk_at dksX2_brokenSprings_0 19 rfl rfl)
theorem dX2_brokenSprings_20 : decode cX2_brokenSprings 20 = .ok (.invokeinterface 48 1, 5) := by decide +kernel
theorem dX2_brokenSprings_25 : decode cX2_brokenSprings 25 = .ok (.checkcast 52, 3) := dk_192 0 52 (dk_at dksX2_brokenSprings_1 5 rfl rfl)
theorem dX2_brokenSprings_28 : decode cX2_brokenSprings 28 = .ok (.astore_n 3, 1) := dk_78 (dk_at dksX2_brokenSprings_1 8 rfl rfl)
theorem dX2_brokenSprings_29 : decode cX2_brokenSprings 29 = .ok (.iload_n 1, 1) := dk_27 (dk_at dksX2_brokenSprings_1 9 rfl rfl)
theorem dX2_brokenSprings_30 : decode cX2_brokenSprings 30 = .ok (.aload_n 3, 1) := dk_45 (dk_at dksX2_brokenSprings_1 10 rfl rfl)
theorem dX2_brokenSprings_31 : decode cX2_brokenSprings 31 = .ok (.invokevirtual 132, 3) := dk_182 0 132 (dk_at dksX2_brokenSprings_1 11 rfl rfl)
theorem dX2_brokenSprings_34 : decode cX2_brokenSprings 34 = .ok (.iadd, 1) := dk_96 (dk_at dksX2_brokenSprings_1 14 rfl rfl)
theorem dX2_brokenSprings_35 : decode cX2_brokenSprings 35 = .ok (.istore_n 1, 1) := dk_60 (dk_at dksX2_brokenSprings_1 15 rfl rfl)
theorem dX2_brokenSprings_36 : decode cX2_brokenSprings 36 = .ok (.goto (-26), 3) := dk_167 255 230 (dk_at dksX2_brokenSprings_1 16 rfl rfl)
theorem dX2_brokenSprings_39 : decode cX2_brokenSprings 39 = .ok (.iload_n 1, 1) := dk_27 (dk_at dksX2_brokenSprings_1 19 rfl rfl)
theorem dX2_brokenSprings_40 : decode cX2_brokenSprings 40 = .ok (.ireturn, 1) := dk_172 (dk_at dksX2_brokenSprings_1 20 rfl rfl)
abbrev cX2_openMats : ByteArray := prog_5_method_13_code
def yX2_openMats : MethodName := ⟨RX2, "openMats", "()I"⟩
def dkwX2_openMats_2 : List UInt8 := [167, 255, 222, 27, 172]
abbrev dktX2_openMats_2 : List UInt8 := dkwX2_openMats_2 ++ []
def dkwX2_openMats_1 : List UInt8 := [185, 0, 48, 1, 0, 192, 0, 52, 78, 27, 45, 180, 0, 135, 153, 0, 7, 3, 167, 0, 4, 4, 96, 60]
abbrev dktX2_openMats_1 : List UInt8 := dkwX2_openMats_1 ++ dktX2_openMats_2
def dkwX2_openMats_0 : List UInt8 := [3, 60, 42, 180, 0, 12, 182, 0, 38, 77, 44, 185, 0, 42, 1, 0, 153, 0, 31, 44]
abbrev dktX2_openMats_0 : List UInt8 := dkwX2_openMats_0 ++ dktX2_openMats_1
theorem dksX2_openMats_0 : cX2_openMats.data.toList.drop 0 = dktX2_openMats_0 := by decide +kernel
theorem dksX2_openMats_1 : cX2_openMats.data.toList.drop 20 = dktX2_openMats_1 := dk_seg dksX2_openMats_0 20 rfl rfl
theorem dksX2_openMats_2 : cX2_openMats.data.toList.drop 44 = dktX2_openMats_2 := dk_seg dksX2_openMats_1 24 rfl rfl
theorem dX2_openMats_0 : decode cX2_openMats 0 = .ok (.iconst 0, 1) := dk_3 (dk_at dksX2_openMats_0 0 rfl rfl)
theorem dX2_openMats_1 : decode cX2_openMats 1 = .ok (.istore_n 1, 1) := dk_60 (dk_at dksX2_openMats_0 1 rfl rfl)
theorem dX2_openMats_2 : decode cX2_openMats 2 = .ok (.aload_n 0, 1) := dk_42 (dk_at dksX2_openMats_0 2 rfl rfl)
theorem dX2_openMats_3 : decode cX2_openMats 3 = .ok (.getfield 12, 3) := dk_180 0 12 (dk_at dksX2_openMats_0 3 rfl rfl)
theorem dX2_openMats_6 : decode cX2_openMats 6 = .ok (.invokevirtual 38, 3) := dk_182 0 38 (dk_at dksX2_openMats_0 6 rfl rfl)
theorem dX2_openMats_9 : decode cX2_openMats 9 = .ok (.astore_n 2, 1) := dk_77 (dk_at dksX2_openMats_0 9 rfl rfl)
theorem dX2_openMats_10 : decode cX2_openMats 10 = .ok (.aload_n 2, 1) := dk_44 (dk_at dksX2_openMats_0 10 rfl rfl)
theorem dX2_openMats_11 : decode cX2_openMats 11 = .ok (.invokeinterface 42 1, 5) := by decide +kernel
theorem dX2_openMats_16 : decode cX2_openMats 16 = .ok (.ifCond .eq 31, 3) := dk_153 0 31 (dk_at dksX2_openMats_0 16 rfl rfl)
theorem dX2_openMats_19 : decode cX2_openMats 19 = .ok (.aload_n 2, 1) := dk_44 (dk_at dksX2_openMats_0 19 rfl rfl)
theorem dX2_openMats_20 : decode cX2_openMats 20 = .ok (.invokeinterface 48 1, 5) := by decide +kernel
theorem dX2_openMats_25 : decode cX2_openMats 25 = .ok (.checkcast 52, 3) := dk_192 0 52 (dk_at dksX2_openMats_1 5 rfl rfl)
theorem dX2_openMats_28 : decode cX2_openMats 28 = .ok (.astore_n 3, 1) := dk_78 (dk_at dksX2_openMats_1 8 rfl rfl)
theorem dX2_openMats_29 : decode cX2_openMats 29 = .ok (.iload_n 1, 1) := dk_27 (dk_at dksX2_openMats_1 9 rfl rfl)
theorem dX2_openMats_30 : decode cX2_openMats 30 = .ok (.aload_n 3, 1) := dk_45 (dk_at dksX2_openMats_1 10 rfl rfl)
theorem dX2_openMats_31 : decode cX2_openMats 31 = .ok (.getfield 135, 3) := dk_180 0 135 (dk_at dksX2_openMats_1 11 rfl rfl)
theorem dX2_openMats_34 : decode cX2_openMats 34 = .ok (.ifCond .eq 7, 3) := dk_153 0 7 (dk_at dksX2_openMats_1 14 rfl rfl)
theorem dX2_openMats_37 : decode cX2_openMats 37 = .ok (.iconst 0, 1) := dk_3 (dk_at dksX2_openMats_1 17 rfl rfl)
theorem dX2_openMats_38 : decode cX2_openMats 38 = .ok (.goto 4, 3) := dk_167 0 4 (dk_at dksX2_openMats_1 18 rfl rfl)
theorem dX2_openMats_41 : decode cX2_openMats 41 = .ok (.iconst 1, 1) := dk_4 (dk_at dksX2_openMats_1 21 rfl rfl)
theorem dX2_openMats_42 : decode cX2_openMats 42 = .ok (.iadd, 1) := dk_96 (dk_at dksX2_openMats_1 22 rfl rfl)
theorem dX2_openMats_43 : decode cX2_openMats 43 = .ok (.istore_n 1, 1) := dk_60 (dk_at dksX2_openMats_1 23 rfl rfl)
theorem dX2_openMats_44 : decode cX2_openMats 44 = .ok (.goto (-34), 3) := dk_167 255 222 (dk_at dksX2_openMats_2 0 rfl rfl)
theorem dX2_openMats_47 : decode cX2_openMats 47 = .ok (.iload_n 1, 1) := dk_27 (dk_at dksX2_openMats_2 3 rfl rfl)
theorem dX2_openMats_48 : decode cX2_openMats 48 = .ok (.ireturn, 1) := dk_172 (dk_at dksX2_openMats_2 4 rfl rfl)
theorem q75 : (Jvm.Cond.initialized "JumpHall$Hall") ∈ lw_all := lw_g (lw_at lw_m1 2 rfl) rfl
theorem q147 : (Jvm.Cond.instantiable "JumpHall$Hall" (11 : Nat)) ∈ lw_all := lw_g (lw_at lw_m1 74 rfl) rfl
theorem q149 : (Jvm.Cond.instanceMethod ({ cls := "JumpHall$Hall", name := "<init>", desc := "()V" } : Jvm.MethodName)) ∈ lw_all := lw_g (lw_at lw_m1 76 rfl) rfl
theorem q150 : (Jvm.Cond.code ({ cls := "JumpHall$Hall", name := "<init>", desc := "()V" } : Jvm.MethodName) prog_5_method_1_code (1 : Nat) (Option.none : Option Jvm.ClassFile.FieldType)) ∈ lw_all := lw_g (lw_at lw_m1 77 rfl) rfl
theorem q151 : (Jvm.Cond.methodLink "JumpHall$Hall" (3 : Nat) ({ cls := "java/lang/Object", name := "<init>", desc := "()V" } : Jvm.MethodName)) ∈ lw_all := lw_g (lw_at lw_m1 78 rfl) rfl
theorem q152 : (Jvm.Cond.classLink "JumpHall$Hall" (9 : Nat) "java/util/ArrayList") ∈ lw_all := lw_g (lw_at lw_m1 79 rfl) rfl
theorem q154 : (Jvm.Cond.methodLink "JumpHall$Hall" (11 : Nat) ({ cls := "java/util/ArrayList", name := "<init>", desc := "()V" } : Jvm.MethodName)) ∈ lw_all := lw_g (lw_at lw_m1 81 rfl) rfl
theorem q181 : (Jvm.Cond.classLink "JumpHall$Hall" (27 : Nat) "JumpHall$Shelf") ∈ lw_all := lw_g (lw_at lw_m1 108 rfl) rfl
theorem q183 : (Jvm.Cond.methodLinkNest "JumpHall$Hall" (29 : Nat) ({ cls := "JumpHall$Shelf", name := "<init>", desc := "()V" } : Jvm.MethodName) "JumpHall") ∈ lw_tbl := lw_at lw_m1 110 rfl
theorem q228 : (Jvm.Cond.fieldLink "JumpHall$Hall" (12 : Nat) "JumpHall$Hall" "mats" "Ljava/util/ArrayList;") ∈ lw_all := lw_g (lw_at lw_m1 155 rfl) rfl
theorem q230 : (Jvm.Cond.fieldLink "JumpHall$Hall" (18 : Nat) "JumpHall$Hall" "jumpers" "Ljava/util/ArrayList;") ∈ lw_all := lw_g (lw_at lw_m1 157 rfl) rfl
theorem q232 : (Jvm.Cond.fieldLink "JumpHall$Hall" (21 : Nat) "JumpHall$Hall" "parties" "Ljava/util/ArrayList;") ∈ lw_all := lw_g (lw_at lw_m1 159 rfl) rfl
theorem q234 : (Jvm.Cond.fieldLink "JumpHall$Hall" (24 : Nat) "JumpHall$Hall" "guards" "Ljava/util/ArrayList;") ∈ lw_all := lw_g (lw_at lw_m1 161 rfl) rfl
theorem q236 : (Jvm.Cond.fieldLink "JumpHall$Hall" (30 : Nat) "JumpHall$Hall" "stock" "LJumpHall$Shelf;") ∈ lw_all := lw_g (lw_at lw_m1 163 rfl) rfl
theorem q238 : (Jvm.Cond.fieldLink "JumpHall$Hall" (34 : Nat) "JumpHall$Hall" "sold" "LJumpHall$Shelf;") ∈ lw_all := lw_g (lw_at lw_m1 165 rfl) rfl
theorem q240 : (Jvm.Cond.fieldLink "JumpHall$Hall" (79 : Nat) "JumpHall$Hall" "pairsSold" "I") ∈ lw_all := lw_g (lw_at lw_m1 167 rfl) rfl
theorem q242 : (Jvm.Cond.fieldLink "JumpHall$Hall" (83 : Nat) "JumpHall$Hall" "coins" "I") ∈ lw_all := lw_g (lw_at lw_m1 169 rfl) rfl
theorem q244 : (Jvm.Cond.fieldLink "JumpHall$Hall" (86 : Nat) "JumpHall$Hall" "sentDown" "I") ∈ lw_all := lw_g (lw_at lw_m1 171 rfl) rfl
theorem q246 : (Jvm.Cond.fieldLink "JumpHall$Hall" (89 : Nat) "JumpHall$Hall" "fixed" "I") ∈ lw_all := lw_g (lw_at lw_m1 173 rfl) rfl
theorem q248 : (Jvm.Cond.fieldLink "JumpHall$Hall" (92 : Nat) "JumpHall$Hall" "minute" "I") ∈ lw_all := lw_g (lw_at lw_m1 175 rfl) rfl
theorem q339 : (Jvm.Cond.instanceMethod ({ cls := "JumpHall$Hall", name := "copy", desc := "()LJumpHall$Hall;" } : Jvm.MethodName)) ∈ lw_all := lw_g (lw_at lw_m2 26 rfl) rfl
theorem q340 : (Jvm.Cond.selects "JumpHall$Hall" ({ cls := "JumpHall$Hall", name := "copy", desc := "()LJumpHall$Hall;" } : Jvm.MethodName) ({ cls := "JumpHall$Hall", name := "copy", desc := "()LJumpHall$Hall;" } : Jvm.MethodName)) ∈ lw_all := lw_g (lw_at lw_m2 27 rfl) rfl
theorem q341 : (Jvm.Cond.code ({ cls := "JumpHall$Hall", name := "copy", desc := "()LJumpHall$Hall;" } : Jvm.MethodName) prog_5_method_2_code (4 : Nat) (Option.some (Jvm.ClassFile.FieldType.object "JumpHall$Hall"))) ∈ lw_all := lw_g (lw_at lw_m2 28 rfl) rfl
theorem q342 : (Jvm.Cond.classLink "JumpHall$Hall" (13 : Nat) "JumpHall$Hall") ∈ lw_all := lw_g (lw_at lw_m2 29 rfl) rfl
theorem q343 : (Jvm.Cond.methodLink "JumpHall$Hall" (37 : Nat) ({ cls := "JumpHall$Hall", name := "<init>", desc := "()V" } : Jvm.MethodName)) ∈ lw_all := lw_g (lw_at lw_m2 30 rfl) rfl
theorem q344 : (Jvm.Cond.methodLink "JumpHall$Hall" (38 : Nat) ({ cls := "java/util/ArrayList", name := "iterator", desc := "()Ljava/util/Iterator;" } : Jvm.MethodName)) ∈ lw_all := lw_g (lw_at lw_m2 31 rfl) rfl
theorem q368 : (Jvm.Cond.methodLink "JumpHall$Hall" (42 : Nat) ({ cls := "java/util/Iterator", name := "hasNext", desc := "()Z" } : Jvm.MethodName)) ∈ lw_all := lw_g (lw_at lw_m2 55 rfl) rfl
theorem q390 : (Jvm.Cond.methodLink "JumpHall$Hall" (48 : Nat) ({ cls := "java/util/Iterator", name := "next", desc := "()Ljava/lang/Object;" } : Jvm.MethodName)) ∈ lw_all := lw_g (lw_at lw_m2 77 rfl) rfl
theorem q802 : (Jvm.Cond.classLink "JumpHall$Hall" (52 : Nat) "JumpHall$Mat") ∈ lw_all := lw_g (lw_at lw_m4 9 rfl) rfl
theorem q803 : (Jvm.Cond.methodLink "JumpHall$Hall" (54 : Nat) ({ cls := "JumpHall$Mat", name := "copy", desc := "()LJumpHall$Mat;" } : Jvm.MethodName)) ∈ lw_all := lw_g (lw_at lw_m4 10 rfl) rfl
theorem q814 : (Jvm.Cond.fieldLinkNest "JumpHall$Hall" (156 : Nat) "JumpHall$Mat" "wear" "[I" "JumpHall") ∈ lw_tbl := lw_at lw_m4 21 rfl
theorem q817 : (Jvm.Cond.fieldLinkNest "JumpHall$Hall" (135 : Nat) "JumpHall$Mat" "isClosed" "Z" "JumpHall") ∈ lw_tbl := lw_at lw_m4 24 rfl
theorem q821 : (Jvm.Cond.fieldLinkNest "JumpHall$Hall" (217 : Nat) "JumpHall$Mat" "ups" "I" "JumpHall") ∈ lw_tbl := lw_at lw_m4 28 rfl
theorem q831 : (Jvm.Cond.methodLink "JumpHall$Hall" (58 : Nat) ({ cls := "java/util/ArrayList", name := "add", desc := "(Ljava/lang/Object;)Z" } : Jvm.MethodName)) ∈ lw_all := lw_g (lw_at lw_m4 38 rfl) rfl
theorem q899 : (Jvm.Cond.classLink "JumpHall$Hall" (62 : Nat) "JumpHall$Jumper") ∈ lw_all := lw_g (lw_at lw_m4 106 rfl) rfl
theorem q900 : (Jvm.Cond.methodLink "JumpHall$Hall" (64 : Nat) ({ cls := "JumpHall$Jumper", name := "copy", desc := "()LJumpHall$Jumper;" } : Jvm.MethodName)) ∈ lw_all := lw_g (lw_at lw_m4 107 rfl) rfl
theorem q911 : (Jvm.Cond.fieldLinkNest "JumpHall$Hall" (153 : Nat) "JumpHall$Jumper" "number" "I" "JumpHall") ∈ lw_tbl := lw_at lw_m4 118 rfl
theorem q914 : (Jvm.Cond.fieldLinkNest "JumpHall$Hall" (109 : Nat) "JumpHall$Jumper" "weight" "I" "JumpHall") ∈ lw_tbl := lw_at lw_m4 121 rfl
theorem q917 : (Jvm.Cond.fieldLinkNest "JumpHall$Hall" (194 : Nat) "JumpHall$Jumper" "size" "I" "JumpHall") ∈ lw_tbl := lw_at lw_m4 124 rfl
theorem q922 : (Jvm.Cond.fieldLinkNest "JumpHall$Hall" (190 : Nat) "JumpHall$Jumper" "state" "I" "JumpHall") ∈ lw_tbl := lw_at lw_m4 129 rfl
theorem q925 : (Jvm.Cond.fieldLinkNest "JumpHall$Hall" (214 : Nat) "JumpHall$Jumper" "mat" "I" "JumpHall") ∈ lw_tbl := lw_at lw_m4 132 rfl
theorem q928 : (Jvm.Cond.fieldLinkNest "JumpHall$Hall" (232 : Nat) "JumpHall$Jumper" "colour" "I" "JumpHall") ∈ lw_tbl := lw_at lw_m4 135 rfl
theorem q932 : (Jvm.Cond.fieldLinkNest "JumpHall$Hall" (264 : Nat) "JumpHall$Jumper" "minutes" "I" "JumpHall") ∈ lw_tbl := lw_at lw_m4 139 rfl
theorem q950 : (Jvm.Cond.classLink "JumpHall$Hall" (67 : Nat) "JumpHall$Party") ∈ lw_all := lw_g (lw_at lw_m4 157 rfl) rfl
theorem q951 : (Jvm.Cond.methodLink "JumpHall$Hall" (69 : Nat) ({ cls := "JumpHall$Party", name := "copy", desc := "()LJumpHall$Party;" } : Jvm.MethodName)) ∈ lw_all := lw_g (lw_at lw_m4 158 rfl) rfl
theorem q962 : (Jvm.Cond.fieldLinkNest "JumpHall$Hall" (263 : Nat) "JumpHall$Party" "minute" "I" "JumpHall") ∈ lw_tbl := lw_at lw_m4 169 rfl
theorem q965 : (Jvm.Cond.fieldLinkNest "JumpHall$Hall" (267 : Nat) "JumpHall$Party" "children" "I" "JumpHall") ∈ lw_tbl := lw_at lw_m4 172 rfl
theorem q968 : (Jvm.Cond.fieldLinkNest "JumpHall$Hall" (270 : Nat) "JumpHall$Party" "weight" "I" "JumpHall") ∈ lw_tbl := lw_at lw_m4 175 rfl
theorem q970 : (Jvm.Cond.fieldLinkNest "JumpHall$Hall" (271 : Nat) "JumpHall$Party" "size" "I" "JumpHall") ∈ lw_tbl := lw_at lw_m4 177 rfl
theorem q972 : (Jvm.Cond.fieldLinkNest "JumpHall$Hall" (129 : Nat) "JumpHall$Party" "state" "I" "JumpHall") ∈ lw_tbl := lw_at lw_m4 179 rfl
theorem q975 : (Jvm.Cond.fieldLinkNest "JumpHall$Hall" (276 : Nat) "JumpHall$Party" "came" "I" "JumpHall") ∈ lw_tbl := lw_at lw_m4 182 rfl
theorem q990 : (Jvm.Cond.methodLink "JumpHall$Hall" (72 : Nat) ({ cls := "java/util/ArrayList", name := "addAll", desc := "(Ljava/util/Collection;)Z" } : Jvm.MethodName)) ∈ lw_all := lw_g (lw_at lw_m4 197 rfl) rfl
theorem q1095 : (Jvm.Cond.methodLink "JumpHall$Hall" (76 : Nat) ({ cls := "JumpHall$Shelf", name := "copy", desc := "()LJumpHall$Shelf;" } : Jvm.MethodName)) ∈ lw_all := lw_g (lw_at lw_m5 62 rfl) rfl
theorem q1717 : (Jvm.Cond.instanceMethod ({ cls := "JumpHall$Hall", name := "addMat", desc := "()I" } : Jvm.MethodName)) ∈ lw_all := lw_g (lw_at lw_m7 204 rfl) rfl
theorem q1718 : (Jvm.Cond.selects "JumpHall$Hall" ({ cls := "JumpHall$Hall", name := "addMat", desc := "()I" } : Jvm.MethodName) ({ cls := "JumpHall$Hall", name := "addMat", desc := "()I" } : Jvm.MethodName)) ∈ lw_all := lw_g (lw_at lw_m7 205 rfl) rfl
theorem q1719 : (Jvm.Cond.code ({ cls := "JumpHall$Hall", name := "addMat", desc := "()I" } : Jvm.MethodName) prog_5_method_14_code (1 : Nat) (Option.some Jvm.ClassFile.FieldType.int)) ∈ lw_all := lw_g (lw_at lw_m7 206 rfl) rfl
theorem q1720 : (Jvm.Cond.methodLink "JumpHall$Hall" (95 : Nat) ({ cls := "java/util/ArrayList", name := "size", desc := "()I" } : Jvm.MethodName)) ∈ lw_all := lw_g (lw_at lw_m7 207 rfl) rfl
theorem q1721 : (Jvm.Cond.methodLinkNest "JumpHall$Hall" (139 : Nat) ({ cls := "JumpHall", name := "refuse", desc := "(ZII)V" } : Jvm.MethodName) "JumpHall") ∈ lw_tbl := lw_at lw_m7 208 rfl
theorem q1750 : (Jvm.Cond.methodLinkNest "JumpHall$Hall" (143 : Nat) ({ cls := "JumpHall$Mat", name := "<init>", desc := "()V" } : Jvm.MethodName) "JumpHall") ∈ lw_tbl := lw_at lw_m7 237 rfl
theorem q1807 : (Jvm.Cond.instanceMethod ({ cls := "JumpHall$Hall", name := "isMat", desc := "(I)Z" } : Jvm.MethodName)) ∈ lw_all := lw_g (lw_at lw_m8 54 rfl) rfl
theorem q1808 : (Jvm.Cond.selects "JumpHall$Hall" ({ cls := "JumpHall$Hall", name := "isMat", desc := "(I)Z" } : Jvm.MethodName) ({ cls := "JumpHall$Hall", name := "isMat", desc := "(I)Z" } : Jvm.MethodName)) ∈ lw_all := lw_g (lw_at lw_m8 55 rfl) rfl
theorem q1809 : (Jvm.Cond.code ({ cls := "JumpHall$Hall", name := "isMat", desc := "(I)Z" } : Jvm.MethodName) prog_5_method_3_code (2 : Nat) (Option.some Jvm.ClassFile.FieldType.boolean)) ∈ lw_all := lw_g (lw_at lw_m8 56 rfl) rfl
theorem q1810 : (Jvm.Cond.methodLinkNest "JumpHall$Hall" (99 : Nat) ({ cls := "JumpHall", name := "isIn", desc := "(III)Z" } : Jvm.MethodName) "JumpHall") ∈ lw_tbl := lw_at lw_m8 57 rfl
theorem q1825 : (Jvm.Cond.instanceMethod ({ cls := "JumpHall$Hall", name := "fix", desc := "(II)I" } : Jvm.MethodName)) ∈ lw_all := lw_g (lw_at lw_m8 72 rfl) rfl
theorem q1826 : (Jvm.Cond.selects "JumpHall$Hall" ({ cls := "JumpHall$Hall", name := "fix", desc := "(II)I" } : Jvm.MethodName) ({ cls := "JumpHall$Hall", name := "fix", desc := "(II)I" } : Jvm.MethodName)) ∈ lw_all := lw_g (lw_at lw_m8 73 rfl) rfl
theorem q1827 : (Jvm.Cond.code ({ cls := "JumpHall$Hall", name := "fix", desc := "(II)I" } : Jvm.MethodName) prog_5_method_15_code (5 : Nat) (Option.some Jvm.ClassFile.FieldType.int)) ∈ lw_all := lw_g (lw_at lw_m8 74 rfl) rfl
theorem q1828 : (Jvm.Cond.methodLink "JumpHall$Hall" (144 : Nat) ({ cls := "java/util/ArrayList", name := "get", desc := "(I)Ljava/lang/Object;" } : Jvm.MethodName)) ∈ lw_all := lw_g (lw_at lw_m8 75 rfl) rfl
theorem q1829 : (Jvm.Cond.static ({ cls := "JumpHall$Hall", name := "lambda$fix$1", desc := "(ILJumpHall$Jumper;)Z" } : Jvm.MethodName)) ∈ lw_all := lw_g (lw_at lw_m8 76 rfl) rfl
theorem q1830 : (Jvm.Cond.code ({ cls := "JumpHall$Hall", name := "lambda$fix$1", desc := "(ILJumpHall$Jumper;)Z" } : Jvm.MethodName) prog_5_method_41_code (2 : Nat) (Option.some Jvm.ClassFile.FieldType.boolean)) ∈ lw_all := lw_g (lw_at lw_m8 77 rfl) rfl
theorem q1831 : (Jvm.Cond.methodLink "JumpHall$Hall" (170 : Nat) ({ cls := "JumpHall$Jumper", name := "isOn", desc := "(I)Z" } : Jvm.MethodName)) ∈ lw_all := lw_g (lw_at lw_m8 78 rfl) rfl
theorem q1835 : (Jvm.Cond.methodLink "JumpHall$Hall" (149 : Nat) ({ cls := "JumpHall$Hall", name := "lowest", desc := "(LJumpHall$Test;)LJumpHall$Jumper;" } : Jvm.MethodName)) ∈ lw_all := lw_g (lw_at lw_m8 82 rfl) rfl
theorem q1836 : (Jvm.Cond.instanceMethod ({ cls := "JumpHall$Hall", name := "lowest", desc := "(LJumpHall$Test;)LJumpHall$Jumper;" } : Jvm.MethodName)) ∈ lw_all := lw_g (lw_at lw_m8 83 rfl) rfl
theorem q1837 : (Jvm.Cond.selects "JumpHall$Hall" ({ cls := "JumpHall$Hall", name := "lowest", desc := "(LJumpHall$Test;)LJumpHall$Jumper;" } : Jvm.MethodName) ({ cls := "JumpHall$Hall", name := "lowest", desc := "(LJumpHall$Test;)LJumpHall$Jumper;" } : Jvm.MethodName)) ∈ lw_all := lw_g (lw_at lw_m8 84 rfl) rfl
theorem q1838 : (Jvm.Cond.code ({ cls := "JumpHall$Hall", name := "lowest", desc := "(LJumpHall$Test;)LJumpHall$Jumper;" } : Jvm.MethodName) prog_5_method_8_code (4 : Nat) (Option.some (Jvm.ClassFile.FieldType.object "JumpHall$Jumper"))) ∈ lw_all := lw_g (lw_at lw_m8 85 rfl) rfl
theorem q1840 : (Jvm.Cond.methodLink "JumpHall$Hall" (103 : Nat) ({ cls := "JumpHall$Test", name := "is", desc := "(LJumpHall$Jumper;)Z" } : Jvm.MethodName)) ∈ lw_all := lw_g (lw_at lw_m8 87 rfl) rfl
theorem q1843 : (Jvm.Cond.methodLink "JumpHall$Hall" (160 : Nat) ({ cls := "JumpHall$Mat", name := "bears", desc := "()I" } : Jvm.MethodName)) ∈ lw_all := lw_g (lw_at lw_m8 90 rfl) rfl
theorem q1867 : (Jvm.Cond.instanceMethod ({ cls := "JumpHall$Hall", name := "open", desc := "(I)I" } : Jvm.MethodName)) ∈ lw_all := lw_g (lw_at lw_m8 114 rfl) rfl
theorem q1868 : (Jvm.Cond.selects "JumpHall$Hall" ({ cls := "JumpHall$Hall", name := "open", desc := "(I)I" } : Jvm.MethodName) ({ cls := "JumpHall$Hall", name := "open", desc := "(I)I" } : Jvm.MethodName)) ∈ lw_all := lw_g (lw_at lw_m8 115 rfl) rfl
theorem q1869 : (Jvm.Cond.code ({ cls := "JumpHall$Hall", name := "open", desc := "(I)I" } : Jvm.MethodName) prog_5_method_16_code (3 : Nat) (Option.some Jvm.ClassFile.FieldType.int)) ∈ lw_all := lw_g (lw_at lw_m8 116 rfl) rfl
theorem q1899 : (Jvm.Cond.instanceMethod ({ cls := "JumpHall$Hall", name := "many", desc := "(LJumpHall$Test;)I" } : Jvm.MethodName)) ∈ lw_all := lw_g (lw_at lw_m8 146 rfl) rfl
theorem q1900 : (Jvm.Cond.selects "JumpHall$Hall" ({ cls := "JumpHall$Hall", name := "many", desc := "(LJumpHall$Test;)I" } : Jvm.MethodName) ({ cls := "JumpHall$Hall", name := "many", desc := "(LJumpHall$Test;)I" } : Jvm.MethodName)) ∈ lw_all := lw_g (lw_at lw_m8 147 rfl) rfl
theorem q1901 : (Jvm.Cond.code ({ cls := "JumpHall$Hall", name := "many", desc := "(LJumpHall$Test;)I" } : Jvm.MethodName) prog_5_method_6_code (5 : Nat) (Option.some Jvm.ClassFile.FieldType.int)) ∈ lw_all := lw_g (lw_at lw_m8 148 rfl) rfl
theorem q1903 : (Jvm.Cond.instanceMethod ({ cls := "JumpHall$Hall", name := "weightOn", desc := "(I)I" } : Jvm.MethodName)) ∈ lw_all := lw_g (lw_at lw_m8 150 rfl) rfl
theorem q1904 : (Jvm.Cond.selects "JumpHall$Hall" ({ cls := "JumpHall$Hall", name := "weightOn", desc := "(I)I" } : Jvm.MethodName) ({ cls := "JumpHall$Hall", name := "weightOn", desc := "(I)I" } : Jvm.MethodName)) ∈ lw_all := lw_g (lw_at lw_m8 151 rfl) rfl
theorem q1905 : (Jvm.Cond.code ({ cls := "JumpHall$Hall", name := "weightOn", desc := "(I)I" } : Jvm.MethodName) prog_5_method_9_code (2 : Nat) (Option.some Jvm.ClassFile.FieldType.int)) ∈ lw_all := lw_g (lw_at lw_m8 152 rfl) rfl
theorem q1906 : (Jvm.Cond.static ({ cls := "JumpHall$Hall", name := "lambda$weightOn$0", desc := "(ILJumpHall$Jumper;)Z" } : Jvm.MethodName)) ∈ lw_all := lw_g (lw_at lw_m8 153 rfl) rfl
theorem q1907 : (Jvm.Cond.code ({ cls := "JumpHall$Hall", name := "lambda$weightOn$0", desc := "(ILJumpHall$Jumper;)Z" } : Jvm.MethodName) prog_5_method_42_code (2 : Nat) (Option.some Jvm.ClassFile.FieldType.boolean)) ∈ lw_all := lw_g (lw_at lw_m8 154 rfl) rfl
theorem q1908 : (Jvm.Cond.methodLink "JumpHall$Hall" (115 : Nat) ({ cls := "JumpHall$Hall", name := "weightOf", desc := "(LJumpHall$Test;)I" } : Jvm.MethodName)) ∈ lw_all := lw_g (lw_at lw_m8 155 rfl) rfl
theorem q1909 : (Jvm.Cond.instanceMethod ({ cls := "JumpHall$Hall", name := "weightOf", desc := "(LJumpHall$Test;)I" } : Jvm.MethodName)) ∈ lw_all := lw_g (lw_at lw_m8 156 rfl) rfl
theorem q1910 : (Jvm.Cond.selects "JumpHall$Hall" ({ cls := "JumpHall$Hall", name := "weightOf", desc := "(LJumpHall$Test;)I" } : Jvm.MethodName) ({ cls := "JumpHall$Hall", name := "weightOf", desc := "(LJumpHall$Test;)I" } : Jvm.MethodName)) ∈ lw_all := lw_g (lw_at lw_m8 157 rfl) rfl
theorem q1911 : (Jvm.Cond.code ({ cls := "JumpHall$Hall", name := "weightOf", desc := "(LJumpHall$Test;)I" } : Jvm.MethodName) prog_5_method_7_code (5 : Nat) (Option.some Jvm.ClassFile.FieldType.int)) ∈ lw_all := lw_g (lw_at lw_m8 158 rfl) rfl
theorem q1913 : (Jvm.Cond.instanceMethod ({ cls := "JumpHall$Hall", name := "guardAt", desc := "(I)I" } : Jvm.MethodName)) ∈ lw_all := lw_g (lw_at lw_m8 160 rfl) rfl
theorem q1914 : (Jvm.Cond.selects "JumpHall$Hall" ({ cls := "JumpHall$Hall", name := "guardAt", desc := "(I)I" } : Jvm.MethodName) ({ cls := "JumpHall$Hall", name := "guardAt", desc := "(I)I" } : Jvm.MethodName)) ∈ lw_all := lw_g (lw_at lw_m8 161 rfl) rfl
theorem q1915 : (Jvm.Cond.code ({ cls := "JumpHall$Hall", name := "guardAt", desc := "(I)I" } : Jvm.MethodName) prog_5_method_10_code (2 : Nat) (Option.some Jvm.ClassFile.FieldType.int)) ∈ lw_all := lw_g (lw_at lw_m8 162 rfl) rfl
theorem q1916 : (Jvm.Cond.methodLink "JumpHall$Hall" (119 : Nat) ({ cls := "java/lang/Integer", name := "valueOf", desc := "(I)Ljava/lang/Integer;" } : Jvm.MethodName)) ∈ lw_all := lw_g (lw_at lw_m8 163 rfl) rfl
theorem q1935 : (Jvm.Cond.methodLink "JumpHall$Hall" (125 : Nat) ({ cls := "java/util/ArrayList", name := "indexOf", desc := "(Ljava/lang/Object;)I" } : Jvm.MethodName)) ∈ lw_all := lw_g (lw_at lw_m8 182 rfl) rfl
theorem q1972 : (Jvm.Cond.instanceMethod ({ cls := "JumpHall$Hall", name := "lasts", desc := "(I)I" } : Jvm.MethodName)) ∈ lw_all := lw_g (lw_at lw_m8 219 rfl) rfl
theorem q1973 : (Jvm.Cond.selects "JumpHall$Hall" ({ cls := "JumpHall$Hall", name := "lasts", desc := "(I)I" } : Jvm.MethodName) ({ cls := "JumpHall$Hall", name := "lasts", desc := "(I)I" } : Jvm.MethodName)) ∈ lw_all := lw_g (lw_at lw_m8 220 rfl) rfl
theorem q1974 : (Jvm.Cond.code ({ cls := "JumpHall$Hall", name := "lasts", desc := "(I)I" } : Jvm.MethodName) prog_5_method_18_code (7 : Nat) (Option.some Jvm.ClassFile.FieldType.int)) ∈ lw_all := lw_g (lw_at lw_m8 221 rfl) rfl
theorem q1975 : (Jvm.Cond.methodLink "JumpHall$Hall" (166 : Nat) ({ cls := "JumpHall$Hall", name := "weightOn", desc := "(I)I" } : Jvm.MethodName)) ∈ lw_all := lw_g (lw_at lw_m8 222 rfl) rfl
theorem q1976 : (Jvm.Cond.methodLink "JumpHall$Hall" (174 : Nat) ({ cls := "JumpHall$Mat", name := "wears", desc := "(I)V" } : Jvm.MethodName)) ∈ lw_all := lw_g (lw_at lw_m8 223 rfl) rfl
theorem q1989 : (Jvm.Cond.instanceMethod ({ cls := "JumpHall$Hall", name := "bestMat", desc := "()I" } : Jvm.MethodName)) ∈ lw_all := lw_g (lw_at lw_m8 236 rfl) rfl
theorem q1990 : (Jvm.Cond.selects "JumpHall$Hall" ({ cls := "JumpHall$Hall", name := "bestMat", desc := "()I" } : Jvm.MethodName) ({ cls := "JumpHall$Hall", name := "bestMat", desc := "()I" } : Jvm.MethodName)) ∈ lw_all := lw_g (lw_at lw_m8 237 rfl) rfl
theorem q1991 : (Jvm.Cond.code ({ cls := "JumpHall$Hall", name := "bestMat", desc := "()I" } : Jvm.MethodName) prog_5_method_17_code (5 : Nat) (Option.some Jvm.ClassFile.FieldType.int)) ∈ lw_all := lw_g (lw_at lw_m8 238 rfl) rfl
theorem q1992 : (Jvm.Cond.methodLink "JumpHall$Hall" (163 : Nat) ({ cls := "JumpHall$Mat", name := "sum", desc := "()I" } : Jvm.MethodName)) ∈ lw_all := lw_g (lw_at lw_m8 239 rfl) rfl
theorem q2003 : (Jvm.Cond.instanceMethod ({ cls := "JumpHall$Hall", name := "addJumper", desc := "(III)I" } : Jvm.MethodName)) ∈ lw_all := lw_g (lw_at lw_m9 10 rfl) rfl
theorem q2004 : (Jvm.Cond.selects "JumpHall$Hall" ({ cls := "JumpHall$Hall", name := "addJumper", desc := "(III)I" } : Jvm.MethodName) ({ cls := "JumpHall$Hall", name := "addJumper", desc := "(III)I" } : Jvm.MethodName)) ∈ lw_all := lw_g (lw_at lw_m9 11 rfl) rfl
theorem q2005 : (Jvm.Cond.code ({ cls := "JumpHall$Hall", name := "addJumper", desc := "(III)I" } : Jvm.MethodName) prog_5_method_19_code (4 : Nat) (Option.some Jvm.ClassFile.FieldType.int)) ∈ lw_all := lw_g (lw_at lw_m9 12 rfl) rfl
theorem q2006 : (Jvm.Cond.methodLink "JumpHall$Hall" (178 : Nat) ({ cls := "JumpHall$Jumper", name := "<init>", desc := "(IIII)V" } : Jvm.MethodName)) ∈ lw_all := lw_g (lw_at lw_m9 13 rfl) rfl
theorem q2015 : (Jvm.Cond.instanceMethod ({ cls := "JumpHall$Hall", name := "isJumper", desc := "(I)Z" } : Jvm.MethodName)) ∈ lw_all := lw_g (lw_at lw_m9 22 rfl) rfl
theorem q2016 : (Jvm.Cond.selects "JumpHall$Hall" ({ cls := "JumpHall$Hall", name := "isJumper", desc := "(I)Z" } : Jvm.MethodName) ({ cls := "JumpHall$Hall", name := "isJumper", desc := "(I)Z" } : Jvm.MethodName)) ∈ lw_all := lw_g (lw_at lw_m9 23 rfl) rfl
theorem q2017 : (Jvm.Cond.code ({ cls := "JumpHall$Hall", name := "isJumper", desc := "(I)Z" } : Jvm.MethodName) prog_5_method_4_code (2 : Nat) (Option.some Jvm.ClassFile.FieldType.boolean)) ∈ lw_all := lw_g (lw_at lw_m9 24 rfl) rfl
theorem q2021 : (Jvm.Cond.instanceMethod ({ cls := "JumpHall$Hall", name := "up", desc := "(II)I" } : Jvm.MethodName)) ∈ lw_all := lw_g (lw_at lw_m9 28 rfl) rfl
theorem q2022 : (Jvm.Cond.selects "JumpHall$Hall" ({ cls := "JumpHall$Hall", name := "up", desc := "(II)I" } : Jvm.MethodName) ({ cls := "JumpHall$Hall", name := "up", desc := "(II)I" } : Jvm.MethodName)) ∈ lw_all := lw_g (lw_at lw_m9 29 rfl) rfl
theorem q2023 : (Jvm.Cond.code ({ cls := "JumpHall$Hall", name := "up", desc := "(II)I" } : Jvm.MethodName) prog_5_method_22_code (4 : Nat) (Option.some Jvm.ClassFile.FieldType.int)) ∈ lw_all := lw_g (lw_at lw_m9 30 rfl) rfl
theorem q2024 : (Jvm.Cond.methodLink "JumpHall$Hall" (211 : Nat) ({ cls := "JumpHall$Hall", name := "checkUp", desc := "(LJumpHall$Jumper;I)V" } : Jvm.MethodName)) ∈ lw_all := lw_g (lw_at lw_m9 31 rfl) rfl
theorem q2026 : (Jvm.Cond.instanceMethod ({ cls := "JumpHall$Hall", name := "checkUp", desc := "(LJumpHall$Jumper;I)V" } : Jvm.MethodName)) ∈ lw_all := lw_g (lw_at lw_m9 33 rfl) rfl
theorem q2027 : (Jvm.Cond.code ({ cls := "JumpHall$Hall", name := "checkUp", desc := "(LJumpHall$Jumper;I)V" } : Jvm.MethodName) prog_5_method_21_code (4 : Nat) (Option.none : Option Jvm.ClassFile.FieldType)) ∈ lw_all := lw_g (lw_at lw_m9 34 rfl) rfl
theorem q2028 : (Jvm.Cond.methodLink "JumpHall$Hall" (191 : Nat) ({ cls := "JumpHall$Jumper", name := "hasSocks", desc := "()Z" } : Jvm.MethodName)) ∈ lw_all := lw_g (lw_at lw_m9 35 rfl) rfl
theorem q2032 : (Jvm.Cond.static ({ cls := "JumpHall$Hall", name := "lambda$checkUp$2", desc := "(ILJumpHall$Jumper;)Z" } : Jvm.MethodName)) ∈ lw_all := lw_g (lw_at lw_m9 39 rfl) rfl
theorem q2033 : (Jvm.Cond.code ({ cls := "JumpHall$Hall", name := "lambda$checkUp$2", desc := "(ILJumpHall$Jumper;)Z" } : Jvm.MethodName) prog_5_method_40_code (2 : Nat) (Option.some Jvm.ClassFile.FieldType.boolean)) ∈ lw_all := lw_g (lw_at lw_m9 40 rfl) rfl
theorem q2034 : (Jvm.Cond.static ({ cls := "JumpHall$Hall", name := "lambda$checkUp$3", desc := "(ILJumpHall$Jumper;)Z" } : Jvm.MethodName)) ∈ lw_all := lw_g (lw_at lw_m9 41 rfl) rfl
theorem q2035 : (Jvm.Cond.code ({ cls := "JumpHall$Hall", name := "lambda$checkUp$3", desc := "(ILJumpHall$Jumper;)Z" } : Jvm.MethodName) prog_5_method_39_code (2 : Nat) (Option.some Jvm.ClassFile.FieldType.boolean)) ∈ lw_all := lw_g (lw_at lw_m9 42 rfl) rfl
theorem q2036 : (Jvm.Cond.methodLink "JumpHall$Hall" (198 : Nat) ({ cls := "JumpHall$Hall", name := "many", desc := "(LJumpHall$Test;)I" } : Jvm.MethodName)) ∈ lw_all := lw_g (lw_at lw_m9 43 rfl) rfl
theorem q2037 : (Jvm.Cond.methodLink "JumpHall$Hall" (201 : Nat) ({ cls := "JumpHall$Hall", name := "checkBearing", desc := "(LJumpHall$Jumper;I)V" } : Jvm.MethodName)) ∈ lw_all := lw_g (lw_at lw_m9 44 rfl) rfl
theorem q2039 : (Jvm.Cond.instanceMethod ({ cls := "JumpHall$Hall", name := "checkBearing", desc := "(LJumpHall$Jumper;I)V" } : Jvm.MethodName)) ∈ lw_all := lw_g (lw_at lw_m9 46 rfl) rfl
theorem q2040 : (Jvm.Cond.code ({ cls := "JumpHall$Hall", name := "checkBearing", desc := "(LJumpHall$Jumper;I)V" } : Jvm.MethodName) prog_5_method_20_code (6 : Nat) (Option.none : Option Jvm.ClassFile.FieldType)) ∈ lw_all := lw_g (lw_at lw_m9 47 rfl) rfl
theorem q2041 : (Jvm.Cond.methodLink "JumpHall$Hall" (132 : Nat) ({ cls := "JumpHall$Mat", name := "broken", desc := "()I" } : Jvm.MethodName)) ∈ lw_all := lw_g (lw_at lw_m9 48 rfl) rfl
theorem q2042 : (Jvm.Cond.classLink "JumpHall$Hall" (181 : Nat) "JumpHall$Refusal") ∈ lw_all := lw_g (lw_at lw_m9 49 rfl) rfl
theorem q2043 : (Jvm.Cond.methodLink "JumpHall$Hall" (183 : Nat) ({ cls := "JumpHall$Refusal", name := "<init>", desc := "(II)V" } : Jvm.MethodName)) ∈ lw_all := lw_g (lw_at lw_m9 50 rfl) rfl
theorem q2044 : (Jvm.Cond.methodLink "JumpHall$Hall" (186 : Nat) ({ cls := "JumpHall$Refusal", name := "behind", desc := "(LJumpHall$Hindrance;)LJumpHall$Refusal;" } : Jvm.MethodName)) ∈ lw_all := lw_g (lw_at lw_m9 51 rfl) rfl
theorem q2170 : (Jvm.Cond.methodLink "JumpHall$Hall" (205 : Nat) ({ cls := "JumpHall$Hall", name := "guardAt", desc := "(I)I" } : Jvm.MethodName)) ∈ lw_all := lw_g (lw_at lw_m9 177 rfl) rfl
theorem q2171 : (Jvm.Cond.methodLink "JumpHall$Hall" (208 : Nat) ({ cls := "JumpHall$Jumper", name := "isLight", desc := "()Z" } : Jvm.MethodName)) ∈ lw_all := lw_g (lw_at lw_m9 178 rfl) rfl
theorem q2190 : (Jvm.Cond.instanceMethod ({ cls := "JumpHall$Hall", name := "down", desc := "(I)I" } : Jvm.MethodName)) ∈ lw_all := lw_g (lw_at lw_m9 197 rfl) rfl
theorem q2191 : (Jvm.Cond.selects "JumpHall$Hall" ({ cls := "JumpHall$Hall", name := "down", desc := "(I)I" } : Jvm.MethodName) ({ cls := "JumpHall$Hall", name := "down", desc := "(I)I" } : Jvm.MethodName)) ∈ lw_all := lw_g (lw_at lw_m9 198 rfl) rfl
theorem q2192 : (Jvm.Cond.code ({ cls := "JumpHall$Hall", name := "down", desc := "(I)I" } : Jvm.MethodName) prog_5_method_24_code (4 : Nat) (Option.some Jvm.ClassFile.FieldType.int)) ∈ lw_all := lw_g (lw_at lw_m9 199 rfl) rfl
theorem q2193 : (Jvm.Cond.methodLink "JumpHall$Hall" (220 : Nat) ({ cls := "JumpHall$Jumper", name := "waits", desc := "()V" } : Jvm.MethodName)) ∈ lw_all := lw_g (lw_at lw_m9 200 rfl) rfl
theorem q2207 : (Jvm.Cond.instanceMethod ({ cls := "JumpHall$Hall", name := "leave", desc := "(I)I" } : Jvm.MethodName)) ∈ lw_all := lw_g (lw_at lw_m9 214 rfl) rfl
theorem q2208 : (Jvm.Cond.selects "JumpHall$Hall" ({ cls := "JumpHall$Hall", name := "leave", desc := "(I)I" } : Jvm.MethodName) ({ cls := "JumpHall$Hall", name := "leave", desc := "(I)I" } : Jvm.MethodName)) ∈ lw_all := lw_g (lw_at lw_m9 215 rfl) rfl
theorem q2209 : (Jvm.Cond.code ({ cls := "JumpHall$Hall", name := "leave", desc := "(I)I" } : Jvm.MethodName) prog_5_method_25_code (3 : Nat) (Option.some Jvm.ClassFile.FieldType.int)) ∈ lw_all := lw_g (lw_at lw_m9 216 rfl) rfl
theorem q2210 : (Jvm.Cond.static ({ cls := "JumpHall$Hall", name := "lambda$leave$4", desc := "(LJumpHall$Jumper;)Z" } : Jvm.MethodName)) ∈ lw_all := lw_g (lw_at lw_m9 217 rfl) rfl
theorem q2211 : (Jvm.Cond.code ({ cls := "JumpHall$Hall", name := "lambda$leave$4", desc := "(LJumpHall$Jumper;)Z" } : Jvm.MethodName) prog_5_method_38_code (1 : Nat) (Option.some Jvm.ClassFile.FieldType.boolean)) ∈ lw_all := lw_g (lw_at lw_m9 218 rfl) rfl
theorem q2212 : (Jvm.Cond.methodLink "JumpHall$Hall" (229 : Nat) ({ cls := "JumpHall$Jumper", name := "isGone", desc := "()Z" } : Jvm.MethodName)) ∈ lw_all := lw_g (lw_at lw_m9 219 rfl) rfl
theorem q2284 : (Jvm.Cond.instanceMethod ({ cls := "JumpHall$Hall", name := "sell", desc := "(II)I" } : Jvm.MethodName)) ∈ lw_all := lw_g (lw_at lw_m10 51 rfl) rfl
theorem q2285 : (Jvm.Cond.selects "JumpHall$Hall" ({ cls := "JumpHall$Hall", name := "sell", desc := "(II)I" } : Jvm.MethodName) ({ cls := "JumpHall$Hall", name := "sell", desc := "(II)I" } : Jvm.MethodName)) ∈ lw_all := lw_g (lw_at lw_m10 52 rfl) rfl
theorem q2286 : (Jvm.Cond.code ({ cls := "JumpHall$Hall", name := "sell", desc := "(II)I" } : Jvm.MethodName) prog_5_method_26_code (7 : Nat) (Option.some Jvm.ClassFile.FieldType.int)) ∈ lw_all := lw_g (lw_at lw_m10 53 rfl) rfl
theorem q2287 : (Jvm.Cond.classLink "JumpHall$Hall" (226 : Nat) "JumpHall$Socks") ∈ lw_all := lw_g (lw_at lw_m10 54 rfl) rfl
theorem q2288 : (Jvm.Cond.methodLink "JumpHall$Hall" (228 : Nat) ({ cls := "JumpHall$Socks", name := "<init>", desc := "(II)V" } : Jvm.MethodName)) ∈ lw_all := lw_g (lw_at lw_m10 55 rfl) rfl
theorem q2289 : (Jvm.Cond.methodLink "JumpHall$Hall" (235 : Nat) ({ cls := "JumpHall$Shelf", name := "of", desc := "(LJumpHall$Socks;)I" } : Jvm.MethodName)) ∈ lw_all := lw_g (lw_at lw_m10 56 rfl) rfl
theorem q2290 : (Jvm.Cond.methodLink "JumpHall$Hall" (239 : Nat) ({ cls := "JumpHall$Shelf", name := "ofSize", desc := "(I)I" } : Jvm.MethodName)) ∈ lw_all := lw_g (lw_at lw_m10 57 rfl) rfl
theorem q2307 : (Jvm.Cond.methodLink "JumpHall$Hall" (242 : Nat) ({ cls := "JumpHall$Shelf", name := "puts", desc := "(LJumpHall$Socks;I)I" } : Jvm.MethodName)) ∈ lw_all := lw_g (lw_at lw_m10 74 rfl) rfl
theorem q2331 : (Jvm.Cond.instanceMethod ({ cls := "JumpHall$Hall", name := "bestSize", desc := "()I" } : Jvm.MethodName)) ∈ lw_all := lw_g (lw_at lw_m10 98 rfl) rfl
theorem q2332 : (Jvm.Cond.selects "JumpHall$Hall" ({ cls := "JumpHall$Hall", name := "bestSize", desc := "()I" } : Jvm.MethodName) ({ cls := "JumpHall$Hall", name := "bestSize", desc := "()I" } : Jvm.MethodName)) ∈ lw_all := lw_g (lw_at lw_m10 99 rfl) rfl
theorem q2333 : (Jvm.Cond.code ({ cls := "JumpHall$Hall", name := "bestSize", desc := "()I" } : Jvm.MethodName) prog_5_method_27_code (5 : Nat) (Option.some Jvm.ClassFile.FieldType.int)) ∈ lw_all := lw_g (lw_at lw_m10 100 rfl) rfl
theorem q2334 : (Jvm.Cond.methodLink "JumpHall$Hall" (246 : Nat) ({ cls := "java/lang/Math", name := "max", desc := "(II)I" } : Jvm.MethodName)) ∈ lw_all := lw_g (lw_at lw_m10 101 rfl) rfl
theorem q2343 : (Jvm.Cond.instanceMethod ({ cls := "JumpHall$Hall", name := "matFor", desc := "(I)I" } : Jvm.MethodName)) ∈ lw_all := lw_g (lw_at lw_m10 110 rfl) rfl
theorem q2344 : (Jvm.Cond.selects "JumpHall$Hall" ({ cls := "JumpHall$Hall", name := "matFor", desc := "(I)I" } : Jvm.MethodName) ({ cls := "JumpHall$Hall", name := "matFor", desc := "(I)I" } : Jvm.MethodName)) ∈ lw_all := lw_g (lw_at lw_m10 111 rfl) rfl
theorem q2345 : (Jvm.Cond.codeWith ({ cls := "JumpHall$Hall", name := "matFor", desc := "(I)I" } : Jvm.MethodName) prog_5_method_23_code (4 : Nat) (Option.some Jvm.ClassFile.FieldType.int) [((13 : Nat), (30 : Nat), (31 : Nat), (181 : Nat))]) ∈ lw_all := lw_g (lw_at lw_m10 112 rfl) rfl
theorem q2356 : (Jvm.Cond.instanceMethod ({ cls := "JumpHall$Hall", name := "addGuard", desc := "()I" } : Jvm.MethodName)) ∈ lw_all := lw_g (lw_at lw_m10 123 rfl) rfl
theorem q2357 : (Jvm.Cond.selects "JumpHall$Hall" ({ cls := "JumpHall$Hall", name := "addGuard", desc := "()I" } : Jvm.MethodName) ({ cls := "JumpHall$Hall", name := "addGuard", desc := "()I" } : Jvm.MethodName)) ∈ lw_all := lw_g (lw_at lw_m10 124 rfl) rfl
theorem q2358 : (Jvm.Cond.code ({ cls := "JumpHall$Hall", name := "addGuard", desc := "()I" } : Jvm.MethodName) prog_5_method_28_code (1 : Nat) (Option.some Jvm.ClassFile.FieldType.int)) ∈ lw_all := lw_g (lw_at lw_m10 125 rfl) rfl
theorem q2367 : (Jvm.Cond.instanceMethod ({ cls := "JumpHall$Hall", name := "isGuard", desc := "(I)Z" } : Jvm.MethodName)) ∈ lw_all := lw_g (lw_at lw_m10 134 rfl) rfl
theorem q2368 : (Jvm.Cond.selects "JumpHall$Hall" ({ cls := "JumpHall$Hall", name := "isGuard", desc := "(I)Z" } : Jvm.MethodName) ({ cls := "JumpHall$Hall", name := "isGuard", desc := "(I)Z" } : Jvm.MethodName)) ∈ lw_all := lw_g (lw_at lw_m10 135 rfl) rfl
theorem q2369 : (Jvm.Cond.code ({ cls := "JumpHall$Hall", name := "isGuard", desc := "(I)Z" } : Jvm.MethodName) prog_5_method_5_code (2 : Nat) (Option.some Jvm.ClassFile.FieldType.boolean)) ∈ lw_all := lw_g (lw_at lw_m10 136 rfl) rfl
theorem q2373 : (Jvm.Cond.instanceMethod ({ cls := "JumpHall$Hall", name := "place", desc := "(II)I" } : Jvm.MethodName)) ∈ lw_all := lw_g (lw_at lw_m10 140 rfl) rfl
theorem q2374 : (Jvm.Cond.selects "JumpHall$Hall" ({ cls := "JumpHall$Hall", name := "place", desc := "(II)I" } : Jvm.MethodName) ({ cls := "JumpHall$Hall", name := "place", desc := "(II)I" } : Jvm.MethodName)) ∈ lw_all := lw_g (lw_at lw_m10 141 rfl) rfl
theorem q2375 : (Jvm.Cond.code ({ cls := "JumpHall$Hall", name := "place", desc := "(II)I" } : Jvm.MethodName) prog_5_method_29_code (5 : Nat) (Option.some Jvm.ClassFile.FieldType.int)) ∈ lw_all := lw_g (lw_at lw_m10 142 rfl) rfl
theorem q2376 : (Jvm.Cond.methodLink "JumpHall$Hall" (252 : Nat) ({ cls := "java/util/ArrayList", name := "set", desc := "(ILjava/lang/Object;)Ljava/lang/Object;" } : Jvm.MethodName)) ∈ lw_all := lw_g (lw_at lw_m10 143 rfl) rfl
theorem q2380 : (Jvm.Cond.classLink "JumpHall$Hall" (120 : Nat) "java/lang/Integer") ∈ lw_all := lw_g (lw_at lw_m10 147 rfl) rfl
theorem q2400 : (Jvm.Cond.instanceMethod ({ cls := "JumpHall$Hall", name := "book", desc := "(IIII)I" } : Jvm.MethodName)) ∈ lw_all := lw_g (lw_at lw_m10 167 rfl) rfl
theorem q2401 : (Jvm.Cond.selects "JumpHall$Hall" ({ cls := "JumpHall$Hall", name := "book", desc := "(IIII)I" } : Jvm.MethodName) ({ cls := "JumpHall$Hall", name := "book", desc := "(IIII)I" } : Jvm.MethodName)) ∈ lw_all := lw_g (lw_at lw_m10 168 rfl) rfl
theorem q2402 : (Jvm.Cond.code ({ cls := "JumpHall$Hall", name := "book", desc := "(IIII)I" } : Jvm.MethodName) prog_5_method_30_code (5 : Nat) (Option.some Jvm.ClassFile.FieldType.int)) ∈ lw_all := lw_g (lw_at lw_m10 169 rfl) rfl
theorem q2403 : (Jvm.Cond.methodLink "JumpHall$Hall" (256 : Nat) ({ cls := "JumpHall$Hall", name := "partiesIn", desc := "(I)I" } : Jvm.MethodName)) ∈ lw_all := lw_g (lw_at lw_m10 170 rfl) rfl
theorem q2404 : (Jvm.Cond.instanceMethod ({ cls := "JumpHall$Hall", name := "partiesIn", desc := "(I)I" } : Jvm.MethodName)) ∈ lw_all := lw_g (lw_at lw_m10 171 rfl) rfl
theorem q2405 : (Jvm.Cond.selects "JumpHall$Hall" ({ cls := "JumpHall$Hall", name := "partiesIn", desc := "(I)I" } : Jvm.MethodName) ({ cls := "JumpHall$Hall", name := "partiesIn", desc := "(I)I" } : Jvm.MethodName)) ∈ lw_all := lw_g (lw_at lw_m10 172 rfl) rfl
theorem q2406 : (Jvm.Cond.code ({ cls := "JumpHall$Hall", name := "partiesIn", desc := "(I)I" } : Jvm.MethodName) prog_5_method_11_code (5 : Nat) (Option.some Jvm.ClassFile.FieldType.int)) ∈ lw_all := lw_g (lw_at lw_m10 173 rfl) rfl
theorem q2407 : (Jvm.Cond.methodLink "JumpHall$Hall" (259 : Nat) ({ cls := "JumpHall$Party", name := "<init>", desc := "(IIII)V" } : Jvm.MethodName)) ∈ lw_all := lw_g (lw_at lw_m10 174 rfl) rfl
theorem q2423 : (Jvm.Cond.instanceMethod ({ cls := "JumpHall$Hall", name := "cancel", desc := "(I)I" } : Jvm.MethodName)) ∈ lw_all := lw_g (lw_at lw_m10 190 rfl) rfl
theorem q2424 : (Jvm.Cond.selects "JumpHall$Hall" ({ cls := "JumpHall$Hall", name := "cancel", desc := "(I)I" } : Jvm.MethodName) ({ cls := "JumpHall$Hall", name := "cancel", desc := "(I)I" } : Jvm.MethodName)) ∈ lw_all := lw_g (lw_at lw_m10 191 rfl) rfl
theorem q2425 : (Jvm.Cond.code ({ cls := "JumpHall$Hall", name := "cancel", desc := "(I)I" } : Jvm.MethodName) prog_5_method_31_code (3 : Nat) (Option.some Jvm.ClassFile.FieldType.int)) ∈ lw_all := lw_g (lw_at lw_m10 192 rfl) rfl
theorem q2426 : (Jvm.Cond.methodLink "JumpHall$Hall" (260 : Nat) ({ cls := "JumpHall$Party", name := "isBooked", desc := "()Z" } : Jvm.MethodName)) ∈ lw_all := lw_g (lw_at lw_m10 193 rfl) rfl
theorem q2445 : (Jvm.Cond.instanceMethod ({ cls := "JumpHall$Hall", name := "nextParty", desc := "()I" } : Jvm.MethodName)) ∈ lw_all := lw_g (lw_at lw_m10 212 rfl) rfl
theorem q2446 : (Jvm.Cond.selects "JumpHall$Hall" ({ cls := "JumpHall$Hall", name := "nextParty", desc := "()I" } : Jvm.MethodName) ({ cls := "JumpHall$Hall", name := "nextParty", desc := "()I" } : Jvm.MethodName)) ∈ lw_all := lw_g (lw_at lw_m10 213 rfl) rfl
theorem q2447 : (Jvm.Cond.code ({ cls := "JumpHall$Hall", name := "nextParty", desc := "()I" } : Jvm.MethodName) prog_5_method_32_code (4 : Nat) (Option.some Jvm.ClassFile.FieldType.int)) ∈ lw_all := lw_g (lw_at lw_m10 214 rfl) rfl
theorem q2458 : (Jvm.Cond.instanceMethod ({ cls := "JumpHall$Hall", name := "pass", desc := "(I)I" } : Jvm.MethodName)) ∈ lw_all := lw_g (lw_at lw_m10 225 rfl) rfl
theorem q2459 : (Jvm.Cond.selects "JumpHall$Hall" ({ cls := "JumpHall$Hall", name := "pass", desc := "(I)I" } : Jvm.MethodName) ({ cls := "JumpHall$Hall", name := "pass", desc := "(I)I" } : Jvm.MethodName)) ∈ lw_all := lw_g (lw_at lw_m10 226 rfl) rfl
theorem q2460 : (Jvm.Cond.code ({ cls := "JumpHall$Hall", name := "pass", desc := "(I)I" } : Jvm.MethodName) prog_5_method_37_code (4 : Nat) (Option.some Jvm.ClassFile.FieldType.int)) ∈ lw_all := lw_g (lw_at lw_m10 227 rfl) rfl
theorem q2461 : (Jvm.Cond.methodLink "JumpHall$Hall" (288 : Nat) ({ cls := "JumpHall$Hall", name := "minuteGoesBy", desc := "()I" } : Jvm.MethodName)) ∈ lw_all := lw_g (lw_at lw_m10 228 rfl) rfl
theorem q2463 : (Jvm.Cond.instanceMethod ({ cls := "JumpHall$Hall", name := "minuteGoesBy", desc := "()I" } : Jvm.MethodName)) ∈ lw_all := lw_g (lw_at lw_m10 230 rfl) rfl
theorem q2464 : (Jvm.Cond.code ({ cls := "JumpHall$Hall", name := "minuteGoesBy", desc := "()I" } : Jvm.MethodName) prog_5_method_36_code (3 : Nat) (Option.some Jvm.ClassFile.FieldType.int)) ∈ lw_all := lw_g (lw_at lw_m10 231 rfl) rfl
theorem q2465 : (Jvm.Cond.methodLink "JumpHall$Hall" (279 : Nat) ({ cls := "JumpHall$Hall", name := "wearMats", desc := "()V" } : Jvm.MethodName)) ∈ lw_all := lw_g (lw_at lw_m10 232 rfl) rfl
theorem q2467 : (Jvm.Cond.instanceMethod ({ cls := "JumpHall$Hall", name := "wearMats", desc := "()V" } : Jvm.MethodName)) ∈ lw_all := lw_g (lw_at lw_m10 234 rfl) rfl
theorem q2468 : (Jvm.Cond.code ({ cls := "JumpHall$Hall", name := "wearMats", desc := "()V" } : Jvm.MethodName) prog_5_method_33_code (4 : Nat) (Option.none : Option Jvm.ClassFile.FieldType)) ∈ lw_all := lw_g (lw_at lw_m10 235 rfl) rfl
theorem q2469 : (Jvm.Cond.methodLink "JumpHall$Hall" (282 : Nat) ({ cls := "JumpHall$Hall", name := "clears", desc := "(I)I" } : Jvm.MethodName)) ∈ lw_all := lw_g (lw_at lw_m10 236 rfl) rfl
theorem q2471 : (Jvm.Cond.instanceMethod ({ cls := "JumpHall$Hall", name := "clears", desc := "(I)I" } : Jvm.MethodName)) ∈ lw_all := lw_g (lw_at lw_m10 238 rfl) rfl
theorem q2472 : (Jvm.Cond.code ({ cls := "JumpHall$Hall", name := "clears", desc := "(I)I" } : Jvm.MethodName) prog_5_method_34_code (5 : Nat) (Option.some Jvm.ClassFile.FieldType.int)) ∈ lw_all := lw_g (lw_at lw_m10 239 rfl) rfl
theorem q2473 : (Jvm.Cond.methodLink "JumpHall$Hall" (285 : Nat) ({ cls := "JumpHall$Hall", name := "comes", desc := "(I)V" } : Jvm.MethodName)) ∈ lw_all := lw_g (lw_at lw_m11 0 rfl) rfl
theorem q2475 : (Jvm.Cond.instanceMethod ({ cls := "JumpHall$Hall", name := "comes", desc := "(I)V" } : Jvm.MethodName)) ∈ lw_all := lw_g (lw_at lw_m11 2 rfl) rfl
theorem q2476 : (Jvm.Cond.codeWith ({ cls := "JumpHall$Hall", name := "comes", desc := "(I)V" } : Jvm.MethodName) prog_5_method_35_code (5 : Nat) (Option.none : Option Jvm.ClassFile.FieldType) [((27 : Nat), (52 : Nat), (55 : Nat), (181 : Nat))]) ∈ lw_all := lw_g (lw_at lw_m11 3 rfl) rfl
theorem q2477 : (Jvm.Cond.methodLink "JumpHall$Hall" (272 : Nat) ({ cls := "JumpHall$Hall", name := "addJumper", desc := "(III)I" } : Jvm.MethodName)) ∈ lw_all := lw_g (lw_at lw_m11 4 rfl) rfl
theorem q2628 : (Jvm.Cond.instanceMethod ({ cls := "JumpHall$Hall", name := "brokenSprings", desc := "()I" } : Jvm.MethodName)) ∈ lw_all := lw_g (lw_at lw_m11 155 rfl) rfl
theorem q2629 : (Jvm.Cond.selects "JumpHall$Hall" ({ cls := "JumpHall$Hall", name := "brokenSprings", desc := "()I" } : Jvm.MethodName) ({ cls := "JumpHall$Hall", name := "brokenSprings", desc := "()I" } : Jvm.MethodName)) ∈ lw_all := lw_g (lw_at lw_m11 156 rfl) rfl
theorem q2630 : (Jvm.Cond.code ({ cls := "JumpHall$Hall", name := "brokenSprings", desc := "()I" } : Jvm.MethodName) prog_5_method_12_code (4 : Nat) (Option.some Jvm.ClassFile.FieldType.int)) ∈ lw_all := lw_g (lw_at lw_m11 157 rfl) rfl
theorem q2639 : (Jvm.Cond.instanceMethod ({ cls := "JumpHall$Hall", name := "openMats", desc := "()I" } : Jvm.MethodName)) ∈ lw_all := lw_g (lw_at lw_m11 166 rfl) rfl
theorem q2640 : (Jvm.Cond.selects "JumpHall$Hall" ({ cls := "JumpHall$Hall", name := "openMats", desc := "()I" } : Jvm.MethodName) ({ cls := "JumpHall$Hall", name := "openMats", desc := "()I" } : Jvm.MethodName)) ∈ lw_all := lw_g (lw_at lw_m11 167 rfl) rfl
theorem q2641 : (Jvm.Cond.code ({ cls := "JumpHall$Hall", name := "openMats", desc := "()I" } : Jvm.MethodName) prog_5_method_13_code (4 : Nat) (Option.some Jvm.ClassFile.FieldType.int)) ∈ lw_all := lw_g (lw_at lw_m11 168 rfl) rfl
theorem q3503 : (Jvm.Cond.castable "JumpHall$Hall" "java/lang/Object") ∈ lw_tbl := lw_at lw_m15 70 rfl
/-! java/util/AbstractCollection -/
def RJ0 : String := "java/util/AbstractCollection"
abbrev cJ0_init : ByteArray := prog_50_method_1_code
def yJ0_init : MethodName := ⟨RJ0, "<init>", "()V"⟩
theorem dJ0_init_0 : decode cJ0_init 0 = .ok (.aload_n 0, 1) := by decide +kernel
theorem dJ0_init_1 : decode cJ0_init 1 = .ok (.invokespecial 1, 3) := by decide +kernel
theorem dJ0_init_4 : decode cJ0_init 4 = .ok (.return_, 1) := by decide +kernel
theorem q76 : (Jvm.Cond.initialized "java/util/AbstractCollection") ∈ lw_all := lw_g (lw_at lw_m1 3 rfl) rfl
theorem q161 : (Jvm.Cond.instanceMethod ({ cls := "java/util/AbstractCollection", name := "<init>", desc := "()V" } : Jvm.MethodName)) ∈ lw_all := lw_g (lw_at lw_m1 88 rfl) rfl
theorem q162 : (Jvm.Cond.code ({ cls := "java/util/AbstractCollection", name := "<init>", desc := "()V" } : Jvm.MethodName) prog_50_method_1_code (1 : Nat) (Option.none : Option Jvm.ClassFile.FieldType)) ∈ lw_all := lw_g (lw_at lw_m1 89 rfl) rfl
theorem q163 : (Jvm.Cond.methodLink "java/util/AbstractCollection" (1 : Nat) ({ cls := "java/lang/Object", name := "<init>", desc := "()V" } : Jvm.MethodName)) ∈ lw_all := lw_g (lw_at lw_m1 90 rfl) rfl
theorem q690 : (Jvm.Cond.declares ({ cls := "java/util/AbstractCollection", name := "size", desc := "()I" } : Jvm.MethodName)) ∈ lw_tbl := lw_at lw_m3 137 rfl
/-! java/util/AbstractList -/
def RJ1 : String := "java/util/AbstractList"
abbrev cJ1_init : ByteArray := prog_51_method_1_code
def yJ1_init : MethodName := ⟨RJ1, "<init>", "()V"⟩
def dkwJ1_init_0 : List UInt8 := [42, 183, 0, 1, 42, 3, 181, 0, 7, 177]
abbrev dktJ1_init_0 : List UInt8 := dkwJ1_init_0 ++ []
theorem dksJ1_init_0 : cJ1_init.data.toList.drop 0 = dktJ1_init_0 := by decide +kernel
theorem dJ1_init_0 : decode cJ1_init 0 = .ok (.aload_n 0, 1) := dk_42 (dk_at dksJ1_init_0 0 rfl rfl)
theorem dJ1_init_1 : decode cJ1_init 1 = .ok (.invokespecial 1, 3) := dk_183 0 1 (dk_at dksJ1_init_0 1 rfl rfl)
theorem dJ1_init_4 : decode cJ1_init 4 = .ok (.aload_n 0, 1) := dk_42 (dk_at dksJ1_init_0 4 rfl rfl)
theorem dJ1_init_5 : decode cJ1_init 5 = .ok (.iconst 0, 1) := dk_3 (dk_at dksJ1_init_0 5 rfl rfl)
theorem dJ1_init_6 : decode cJ1_init 6 = .ok (.putfield 7, 3) := dk_181 0 7 (dk_at dksJ1_init_0 6 rfl rfl)
theorem dJ1_init_9 : decode cJ1_init 9 = .ok (.return_, 1) := dk_177 (dk_at dksJ1_init_0 9 rfl rfl)
theorem q77 : (Jvm.Cond.initialized "java/util/AbstractList") ∈ lw_all := lw_g (lw_at lw_m1 4 rfl) rfl
theorem q158 : (Jvm.Cond.instanceMethod ({ cls := "java/util/AbstractList", name := "<init>", desc := "()V" } : Jvm.MethodName)) ∈ lw_all := lw_g (lw_at lw_m1 85 rfl) rfl
theorem q159 : (Jvm.Cond.code ({ cls := "java/util/AbstractList", name := "<init>", desc := "()V" } : Jvm.MethodName) prog_51_method_1_code (1 : Nat) (Option.none : Option Jvm.ClassFile.FieldType)) ∈ lw_all := lw_g (lw_at lw_m1 86 rfl) rfl
theorem q160 : (Jvm.Cond.methodLink "java/util/AbstractList" (1 : Nat) ({ cls := "java/util/AbstractCollection", name := "<init>", desc := "()V" } : Jvm.MethodName)) ∈ lw_all := lw_g (lw_at lw_m1 87 rfl) rfl
theorem q170 : (Jvm.Cond.fieldLink "java/util/AbstractList" (7 : Nat) "java/util/AbstractList" "modCount" "I") ∈ lw_all := lw_g (lw_at lw_m1 97 rfl) rfl
/-! java/util/ArrayList -/
def RJ2 : String := "java/util/ArrayList"
abbrev cJ2_init : ByteArray := prog_54_method_2_code
def yJ2_init : MethodName := ⟨RJ2, "<init>", "()V"⟩
def dkwJ2_init_0 : List UInt8 := [42, 183, 0, 1, 42, 178, 0, 39, 181, 0, 9, 177]
abbrev dktJ2_init_0 : List UInt8 := dkwJ2_init_0 ++ []
theorem dksJ2_init_0 : cJ2_init.data.toList.drop 0 = dktJ2_init_0 := by decide +kernel
theorem dJ2_init_0 : decode cJ2_init 0 = .ok (.aload_n 0, 1) := dk_42 (dk_at dksJ2_init_0 0 rfl rfl)
theorem dJ2_init_1 : decode cJ2_init 1 = .ok (.invokespecial 1, 3) := dk_183 0 1 (dk_at dksJ2_init_0 1 rfl rfl)
theorem dJ2_init_4 : decode cJ2_init 4 = .ok (.aload_n 0, 1) := dk_42 (dk_at dksJ2_init_0 4 rfl rfl)
theorem dJ2_init_5 : decode cJ2_init 5 = .ok (.getstatic 39, 3) := dk_178 0 39 (dk_at dksJ2_init_0 5 rfl rfl)
theorem dJ2_init_8 : decode cJ2_init 8 = .ok (.putfield 9, 3) := dk_181 0 9 (dk_at dksJ2_init_0 8 rfl rfl)
theorem dJ2_init_11 : decode cJ2_init 11 = .ok (.return_, 1) := dk_177 (dk_at dksJ2_init_0 11 rfl rfl)
abbrev cJ2_iterator : ByteArray := prog_54_method_55_code
def yJ2_iterator : MethodName := ⟨RJ2, "iterator", "()Ljava/util/Iterator;"⟩
def dkwJ2_iterator_0 : List UInt8 := [187, 1, 11, 89, 42, 183, 1, 13, 176]
abbrev dktJ2_iterator_0 : List UInt8 := dkwJ2_iterator_0 ++ []
theorem dksJ2_iterator_0 : cJ2_iterator.data.toList.drop 0 = dktJ2_iterator_0 := by decide +kernel
theorem dJ2_iterator_0 : decode cJ2_iterator 0 = .ok (.new 267, 3) := dk_187 1 11 (dk_at dksJ2_iterator_0 0 rfl rfl)
theorem dJ2_iterator_3 : decode cJ2_iterator 3 = .ok (.dup, 1) := dk_89 (dk_at dksJ2_iterator_0 3 rfl rfl)
theorem dJ2_iterator_4 : decode cJ2_iterator 4 = .ok (.aload_n 0, 1) := dk_42 (dk_at dksJ2_iterator_0 4 rfl rfl)
theorem dJ2_iterator_5 : decode cJ2_iterator 5 = .ok (.invokespecial 269, 3) := dk_183 1 13 (dk_at dksJ2_iterator_0 5 rfl rfl)
theorem dJ2_iterator_8 : decode cJ2_iterator 8 = .ok (.areturn, 1) := dk_176 (dk_at dksJ2_iterator_0 8 rfl rfl)
abbrev cJ2_get : ByteArray := prog_54_method_20_code
def yJ2_get : MethodName := ⟨RJ2, "get", "(I)Ljava/lang/Object;"⟩
def dkwJ2_get_0 : List UInt8 := [27, 42, 180, 0, 48, 184, 0, 118, 87, 42, 27, 182, 0, 123, 176]
abbrev dktJ2_get_0 : List UInt8 := dkwJ2_get_0 ++ []
theorem dksJ2_get_0 : cJ2_get.data.toList.drop 0 = dktJ2_get_0 := by decide +kernel
theorem dJ2_get_0 : decode cJ2_get 0 = .ok (.iload_n 1, 1) := dk_27 (dk_at dksJ2_get_0 0 rfl rfl)
theorem dJ2_get_1 : decode cJ2_get 1 = .ok (.aload_n 0, 1) := dk_42 (dk_at dksJ2_get_0 1 rfl rfl)
theorem dJ2_get_2 : decode cJ2_get 2 = .ok (.getfield 48, 3) := dk_180 0 48 (dk_at dksJ2_get_0 2 rfl rfl)
theorem dJ2_get_5 : decode cJ2_get 5 = .ok (.invokestatic 118, 3) := dk_184 0 118 (dk_at dksJ2_get_0 5 rfl rfl)
theorem dJ2_get_8 : decode cJ2_get 8 = .ok (.pop, 1) := dk_87 (dk_at dksJ2_get_0 8 rfl rfl)
theorem dJ2_get_9 : decode cJ2_get 9 = .ok (.aload_n 0, 1) := dk_42 (dk_at dksJ2_get_0 9 rfl rfl)
theorem dJ2_get_10 : decode cJ2_get 10 = .ok (.iload_n 1, 1) := dk_27 (dk_at dksJ2_get_0 10 rfl rfl)
theorem dJ2_get_11 : decode cJ2_get 11 = .ok (.invokevirtual 123, 3) := dk_182 0 123 (dk_at dksJ2_get_0 11 rfl rfl)
theorem dJ2_get_14 : decode cJ2_get 14 = .ok (.areturn, 1) := dk_176 (dk_at dksJ2_get_0 14 rfl rfl)
abbrev cJ2_elementData : ByteArray := prog_54_method_18_code
def yJ2_elementData : MethodName := ⟨RJ2, "elementData", "(I)Ljava/lang/Object;"⟩
def dkwJ2_elementData_0 : List UInt8 := [42, 180, 0, 9, 27, 50, 176]
abbrev dktJ2_elementData_0 : List UInt8 := dkwJ2_elementData_0 ++ []
theorem dksJ2_elementData_0 : cJ2_elementData.data.toList.drop 0 = dktJ2_elementData_0 := by decide +kernel
theorem dJ2_elementData_0 : decode cJ2_elementData 0 = .ok (.aload_n 0, 1) := dk_42 (dk_at dksJ2_elementData_0 0 rfl rfl)
theorem dJ2_elementData_1 : decode cJ2_elementData 1 = .ok (.getfield 9, 3) := dk_180 0 9 (dk_at dksJ2_elementData_0 1 rfl rfl)
theorem dJ2_elementData_4 : decode cJ2_elementData 4 = .ok (.iload_n 1, 1) := dk_27 (dk_at dksJ2_elementData_0 4 rfl rfl)
theorem dJ2_elementData_5 : decode cJ2_elementData 5 = .ok (.aaload, 1) := dk_50 (dk_at dksJ2_elementData_0 5 rfl rfl)
theorem dJ2_elementData_6 : decode cJ2_elementData 6 = .ok (.areturn, 1) := dk_176 (dk_at dksJ2_elementData_0 6 rfl rfl)
abbrev cJ2_add : ByteArray := prog_54_method_25_code
def yJ2_add : MethodName := ⟨RJ2, "add", "(Ljava/lang/Object;)Z"⟩
def dkwJ2_add_1 : List UInt8 := [172]
abbrev dktJ2_add_1 : List UInt8 := dkwJ2_add_1 ++ []
def dkwJ2_add_0 : List UInt8 := [42, 89, 180, 0, 63, 4, 96, 181, 0, 63, 42, 43, 42, 180, 0, 9, 42, 180, 0, 48, 182, 0, 131, 4]
abbrev dktJ2_add_0 : List UInt8 := dkwJ2_add_0 ++ dktJ2_add_1
theorem dksJ2_add_0 : cJ2_add.data.toList.drop 0 = dktJ2_add_0 := by decide +kernel
theorem dksJ2_add_1 : cJ2_add.data.toList.drop 24 = dktJ2_add_1 := dk_seg dksJ2_add_0 24 rfl rfl
theorem dJ2_add_0 : decode cJ2_add 0 = .ok (.aload_n 0, 1) := dk_42 (dk_at dksJ2_add_0 0 rfl rfl)
theorem dJ2_add_1 : decode cJ2_add 1 = .ok (.dup, 1) := dk_89 (dk_at dksJ2_add_0 1 rfl rfl)
theorem dJ2_add_2 : decode cJ2_add 2 = .ok (.getfield 63, 3) := dk_180 0 63 (dk_at dksJ2_add_0 2 rfl rfl)
theorem dJ2_add_5 : decode cJ2_add 5 = .ok (.iconst 1, 1) := dk_4 (dk_at dksJ2_add_0 5 rfl rfl)
theorem dJ2_add_6 : decode cJ2_add 6 = .ok (.iadd, 1) := dk_96 (dk_at dksJ2_add_0 6 rfl rfl)
theorem dJ2_add_7 : decode cJ2_add 7 = .ok (.putfield 63, 3) := dk_181 0 63 (dk_at dksJ2_add_0 7 rfl rfl)
theorem dJ2_add_10 : decode cJ2_add 10 = .ok (.aload_n 0, 1) := dk_42 (dk_at dksJ2_add_0 10 rfl rfl)
theorem dJ2_add_11 : decode cJ2_add 11 = .ok (.aload_n 1, 1) := dk_43 (dk_at dksJ2_add_0 11 rfl rfl)
theorem dJ2_add_12 : decode cJ2_add 12 = .ok (.aload_n 0, 1) := dk_42 (dk_at dksJ2_add_0 12 rfl rfl)
theorem dJ2_add_13 : decode cJ2_add 13 = .ok (.getfield 9, 3) := dk_180 0 9 (dk_at dksJ2_add_0 13 rfl rfl)
theorem dJ2_add_16 : decode cJ2_add 16 = .ok (.aload_n 0, 1) := dk_42 (dk_at dksJ2_add_0 16 rfl rfl)
theorem dJ2_add_17 : decode cJ2_add 17 = .ok (.getfield 48, 3) := dk_180 0 48 (dk_at dksJ2_add_0 17 rfl rfl)
theorem dJ2_add_20 : decode cJ2_add 20 = .ok (.invokevirtual 131, 3) := dk_182 0 131 (dk_at dksJ2_add_0 20 rfl rfl)
theorem dJ2_add_23 : decode cJ2_add 23 = .ok (.iconst 1, 1) := dk_4 (dk_at dksJ2_add_0 23 rfl rfl)
theorem dJ2_add_24 : decode cJ2_add 24 = .ok (.ireturn, 1) := dk_172 (dk_at dksJ2_add_1 0 rfl rfl)
abbrev cJ2_add_2 : ByteArray := prog_54_method_24_code
def yJ2_add_2 : MethodName := ⟨RJ2, "add", "(Ljava/lang/Object;[Ljava/lang/Object;I)V"⟩
def dkwJ2_add_2_0 : List UInt8 := [29, 44, 190, 160, 0, 8, 42, 182, 0, 129, 77, 44, 29, 43, 83, 42, 29, 4, 96, 181, 0, 48, 177]
abbrev dktJ2_add_2_0 : List UInt8 := dkwJ2_add_2_0 ++ []
theorem dksJ2_add_2_0 : cJ2_add_2.data.toList.drop 0 = dktJ2_add_2_0 := by decide +kernel
theorem dJ2_add_2_0 : decode cJ2_add_2 0 = .ok (.iload_n 3, 1) := dk_29 (dk_at dksJ2_add_2_0 0 rfl rfl)
theorem dJ2_add_2_1 : decode cJ2_add_2 1 = .ok (.aload_n 2, 1) := dk_44 (dk_at dksJ2_add_2_0 1 rfl rfl)
theorem dJ2_add_2_2 : decode cJ2_add_2 2 = .ok (.arraylength, 1) := dk_190 (dk_at dksJ2_add_2_0 2 rfl rfl)
theorem dJ2_add_2_3 : decode cJ2_add_2 3 = .ok (.if_icmp .ne 8, 3) := dk_160 0 8 (dk_at dksJ2_add_2_0 3 rfl rfl)
theorem dJ2_add_2_6 : decode cJ2_add_2 6 = .ok (.aload_n 0, 1) := dk_42 (dk_at dksJ2_add_2_0 6 rfl rfl)
theorem dJ2_add_2_7 : decode cJ2_add_2 7 = .ok (.invokevirtual 129, 3) := dk_182 0 129 (dk_at dksJ2_add_2_0 7 rfl rfl)
theorem dJ2_add_2_10 : decode cJ2_add_2 10 = .ok (.astore_n 2, 1) := dk_77 (dk_at dksJ2_add_2_0 10 rfl rfl)
theorem dJ2_add_2_11 : decode cJ2_add_2 11 = .ok (.aload_n 2, 1) := dk_44 (dk_at dksJ2_add_2_0 11 rfl rfl)
theorem dJ2_add_2_12 : decode cJ2_add_2 12 = .ok (.iload_n 3, 1) := dk_29 (dk_at dksJ2_add_2_0 12 rfl rfl)
theorem dJ2_add_2_13 : decode cJ2_add_2 13 = .ok (.aload_n 1, 1) := dk_43 (dk_at dksJ2_add_2_0 13 rfl rfl)
theorem dJ2_add_2_14 : decode cJ2_add_2 14 = .ok (.aastore, 1) := dk_83 (dk_at dksJ2_add_2_0 14 rfl rfl)
theorem dJ2_add_2_15 : decode cJ2_add_2 15 = .ok (.aload_n 0, 1) := dk_42 (dk_at dksJ2_add_2_0 15 rfl rfl)
theorem dJ2_add_2_16 : decode cJ2_add_2 16 = .ok (.iload_n 3, 1) := dk_29 (dk_at dksJ2_add_2_0 16 rfl rfl)
theorem dJ2_add_2_17 : decode cJ2_add_2 17 = .ok (.iconst 1, 1) := dk_4 (dk_at dksJ2_add_2_0 17 rfl rfl)
theorem dJ2_add_2_18 : decode cJ2_add_2 18 = .ok (.iadd, 1) := dk_96 (dk_at dksJ2_add_2_0 18 rfl rfl)
theorem dJ2_add_2_19 : decode cJ2_add_2 19 = .ok (.putfield 48, 3) := dk_181 0 48 (dk_at dksJ2_add_2_0 19 rfl rfl)
theorem dJ2_add_2_22 : decode cJ2_add_2 22 = .ok (.return_, 1) := dk_177 (dk_at dksJ2_add_2_0 22 rfl rfl)
abbrev cJ2_grow : ByteArray := prog_54_method_7_code
def yJ2_grow : MethodName := ⟨RJ2, "grow", "()[Ljava/lang/Object;"⟩
def dkwJ2_grow_0 : List UInt8 := [42, 42, 180, 0, 48, 4, 96, 182, 0, 69, 176]
abbrev dktJ2_grow_0 : List UInt8 := dkwJ2_grow_0 ++ []
theorem dksJ2_grow_0 : cJ2_grow.data.toList.drop 0 = dktJ2_grow_0 := by decide +kernel
theorem dJ2_grow_0 : decode cJ2_grow 0 = .ok (.aload_n 0, 1) := dk_42 (dk_at dksJ2_grow_0 0 rfl rfl)
theorem dJ2_grow_1 : decode cJ2_grow 1 = .ok (.aload_n 0, 1) := dk_42 (dk_at dksJ2_grow_0 1 rfl rfl)
theorem dJ2_grow_2 : decode cJ2_grow 2 = .ok (.getfield 48, 3) := dk_180 0 48 (dk_at dksJ2_grow_0 2 rfl rfl)
theorem dJ2_grow_5 : decode cJ2_grow 5 = .ok (.iconst 1, 1) := dk_4 (dk_at dksJ2_grow_0 5 rfl rfl)
theorem dJ2_grow_6 : decode cJ2_grow 6 = .ok (.iadd, 1) := dk_96 (dk_at dksJ2_grow_0 6 rfl rfl)
theorem dJ2_grow_7 : decode cJ2_grow 7 = .ok (.invokevirtual 69, 3) := dk_182 0 69 (dk_at dksJ2_grow_0 7 rfl rfl)
theorem dJ2_grow_10 : decode cJ2_grow 10 = .ok (.areturn, 1) := dk_176 (dk_at dksJ2_grow_0 10 rfl rfl)
abbrev cJ2_grow_2 : ByteArray := prog_54_method_6_code
def yJ2_grow_2 : MethodName := ⟨RJ2, "grow", "(I)[Ljava/lang/Object;"⟩
def dkwJ2_grow_2_2 : List UInt8 := [27, 184, 0, 79, 189, 0, 7, 90, 181, 0, 9, 176]
abbrev dktJ2_grow_2_2 : List UInt8 := dkwJ2_grow_2_2 ++ []
def dkwJ2_grow_2_1 : List UInt8 := [28, 4, 122, 184, 0, 73, 62, 42, 42, 180, 0, 9, 29, 184, 0, 66, 90, 181, 0, 9, 176, 42, 16, 10]
abbrev dktJ2_grow_2_1 : List UInt8 := dkwJ2_grow_2_1 ++ dktJ2_grow_2_2
def dkwJ2_grow_2_0 : List UInt8 := [42, 180, 0, 9, 190, 61, 28, 157, 0, 13, 42, 180, 0, 9, 178, 0, 39, 165, 0, 28, 28, 27, 28, 100]
abbrev dktJ2_grow_2_0 : List UInt8 := dkwJ2_grow_2_0 ++ dktJ2_grow_2_1
theorem dksJ2_grow_2_0 : cJ2_grow_2.data.toList.drop 0 = dktJ2_grow_2_0 := by decide +kernel
theorem dksJ2_grow_2_1 : cJ2_grow_2.data.toList.drop 24 = dktJ2_grow_2_1 := dk_seg dksJ2_grow_2_0 24 rfl rfl
theorem dksJ2_grow_2_2 : cJ2_grow_2.data.toList.drop 48 = dktJ2_grow_2_2 := dk_seg dksJ2_grow_2_1 24 rfl rfl
theorem dJ2_grow_2_0 : decode cJ2_grow_2 0 = .ok (.aload_n 0, 1) := dk_42 (dk_at dksJ2_grow_2_0 0 rfl rfl)
theorem dJ2_grow_2_1 : decode cJ2_grow_2 1 = .ok (.getfield 9, 3) := dk_180 0 9 (dk_at dksJ2_grow_2_0 1 rfl rfl)
theorem dJ2_grow_2_4 : decode cJ2_grow_2 4 = .ok (.arraylength, 1) := dk_190 (dk_at dksJ2_grow_2_0 4 rfl rfl)
theorem dJ2_grow_2_5 : decode cJ2_grow_2 5 = .ok (.istore_n 2, 1) := dk_61 (dk_at dksJ2_grow_2_0 5 rfl rfl)
theorem dJ2_grow_2_6 : decode cJ2_grow_2 6 = .ok (.iload_n 2, 1) := dk_28 (dk_at dksJ2_grow_2_0 6 rfl rfl)
theorem dJ2_grow_2_7 : decode cJ2_grow_2 7 = .ok (.ifCond .gt 13, 3) := dk_157 0 13 (dk_at dksJ2_grow_2_0 7 rfl rfl)
theorem dJ2_grow_2_10 : decode cJ2_grow_2 10 = .ok (.aload_n 0, 1) := dk_42 (dk_at dksJ2_grow_2_0 10 rfl rfl)
theorem dJ2_grow_2_11 : decode cJ2_grow_2 11 = .ok (.getfield 9, 3) := dk_180 0 9 (dk_at dksJ2_grow_2_0 11 rfl rfl)
theorem dJ2_grow_2_14 : decode cJ2_grow_2 14 = .ok (.getstatic 39, 3) := dk_178 0 39 (dk_at dksJ2_grow_2_0 14 rfl rfl)
theorem dJ2_grow_2_17 : decode cJ2_grow_2 17 = .ok (.if_acmp .eq 28, 3) := dk_165 0 28 (dk_at dksJ2_grow_2_0 17 rfl rfl)
theorem dJ2_grow_2_20 : decode cJ2_grow_2 20 = .ok (.iload_n 2, 1) := dk_28 (dk_at dksJ2_grow_2_0 20 rfl rfl)
theorem dJ2_grow_2_21 : decode cJ2_grow_2 21 = .ok (.iload_n 1, 1) := dk_27 (dk_at dksJ2_grow_2_0 21 rfl rfl)
theorem dJ2_grow_2_22 : decode cJ2_grow_2 22 = .ok (.iload_n 2, 1) := dk_28 (dk_at dksJ2_grow_2_0 22 rfl rfl)
theorem dJ2_grow_2_23 : decode cJ2_grow_2 23 = .ok (.isub, 1) := dk_100 (dk_at dksJ2_grow_2_0 23 rfl rfl)
theorem dJ2_grow_2_24 : decode cJ2_grow_2 24 = .ok (.iload_n 2, 1) := dk_28 (dk_at dksJ2_grow_2_1 0 rfl rfl)
theorem dJ2_grow_2_25 : decode cJ2_grow_2 25 = .ok (.iconst 1, 1) := dk_4 (dk_at dksJ2_grow_2_1 1 rfl rfl)
theorem dJ2_grow_2_26 : decode cJ2_grow_2 26 = .ok (.ishr, 1) := dk_122 (dk_at dksJ2_grow_2_1 2 rfl rfl)
theorem dJ2_grow_2_27 : decode cJ2_grow_2 27 = .ok (.invokestatic 73, 3) := dk_184 0 73 (dk_at dksJ2_grow_2_1 3 rfl rfl)
theorem dJ2_grow_2_30 : decode cJ2_grow_2 30 = .ok (.istore_n 3, 1) := dk_62 (dk_at dksJ2_grow_2_1 6 rfl rfl)
theorem dJ2_grow_2_31 : decode cJ2_grow_2 31 = .ok (.aload_n 0, 1) := dk_42 (dk_at dksJ2_grow_2_1 7 rfl rfl)
theorem dJ2_grow_2_32 : decode cJ2_grow_2 32 = .ok (.aload_n 0, 1) := dk_42 (dk_at dksJ2_grow_2_1 8 rfl rfl)
theorem dJ2_grow_2_33 : decode cJ2_grow_2 33 = .ok (.getfield 9, 3) := dk_180 0 9 (dk_at dksJ2_grow_2_1 9 rfl rfl)
theorem dJ2_grow_2_36 : decode cJ2_grow_2 36 = .ok (.iload_n 3, 1) := dk_29 (dk_at dksJ2_grow_2_1 12 rfl rfl)
theorem dJ2_grow_2_37 : decode cJ2_grow_2 37 = .ok (.invokestatic 66, 3) := dk_184 0 66 (dk_at dksJ2_grow_2_1 13 rfl rfl)
theorem dJ2_grow_2_40 : decode cJ2_grow_2 40 = .ok (.dup_x1, 1) := dk_90 (dk_at dksJ2_grow_2_1 16 rfl rfl)
theorem dJ2_grow_2_41 : decode cJ2_grow_2 41 = .ok (.putfield 9, 3) := dk_181 0 9 (dk_at dksJ2_grow_2_1 17 rfl rfl)
theorem dJ2_grow_2_44 : decode cJ2_grow_2 44 = .ok (.areturn, 1) := dk_176 (dk_at dksJ2_grow_2_1 20 rfl rfl)
theorem dJ2_grow_2_45 : decode cJ2_grow_2 45 = .ok (.aload_n 0, 1) := dk_42 (dk_at dksJ2_grow_2_1 21 rfl rfl)
theorem dJ2_grow_2_46 : decode cJ2_grow_2 46 = .ok (.bipush 10, 2) := dk_16 10 (dk_at dksJ2_grow_2_1 22 rfl rfl)
theorem dJ2_grow_2_48 : decode cJ2_grow_2 48 = .ok (.iload_n 1, 1) := dk_27 (dk_at dksJ2_grow_2_2 0 rfl rfl)
theorem dJ2_grow_2_49 : decode cJ2_grow_2 49 = .ok (.invokestatic 79, 3) := dk_184 0 79 (dk_at dksJ2_grow_2_2 1 rfl rfl)
theorem dJ2_grow_2_52 : decode cJ2_grow_2 52 = .ok (.anewarray 7, 3) := dk_189 0 7 (dk_at dksJ2_grow_2_2 4 rfl rfl)
theorem dJ2_grow_2_55 : decode cJ2_grow_2 55 = .ok (.dup_x1, 1) := dk_90 (dk_at dksJ2_grow_2_2 7 rfl rfl)
theorem dJ2_grow_2_56 : decode cJ2_grow_2 56 = .ok (.putfield 9, 3) := dk_181 0 9 (dk_at dksJ2_grow_2_2 8 rfl rfl)
theorem dJ2_grow_2_59 : decode cJ2_grow_2 59 = .ok (.areturn, 1) := dk_176 (dk_at dksJ2_grow_2_2 11 rfl rfl)
abbrev cJ2_addAll : ByteArray := prog_54_method_41_code
def yJ2_addAll : MethodName := ⟨RJ2, "addAll", "(Ljava/util/Collection;)Z"⟩
def dkwJ2_addAll_3 : List UInt8 := [181, 0, 48, 4, 172]
abbrev dktJ2_addAll_3 : List UInt8 := dkwJ2_addAll_3 ++ []
def dkwJ2_addAll_2 : List UInt8 := [21, 5, 29, 96, 182, 0, 69, 58, 4, 44, 3, 25, 4, 21, 5, 29, 184, 0, 112, 42, 21, 5, 29, 96]
abbrev dktJ2_addAll_2 : List UInt8 := dkwJ2_addAll_2 ++ dktJ2_addAll_3
def dkwJ2_addAll_1 : List UInt8 := [3, 172, 29, 42, 180, 0, 9, 89, 58, 4, 190, 42, 180, 0, 48, 89, 54, 5, 100, 164, 0, 13, 42]
abbrev dktJ2_addAll_1 : List UInt8 := dkwJ2_addAll_1 ++ dktJ2_addAll_2
def dkwJ2_addAll_0 : List UInt8 := [43, 185, 0, 42, 1, 0, 77, 42, 89, 180, 0, 63, 4, 96, 181, 0, 63, 44, 190, 62, 29, 154, 0, 5]
abbrev dktJ2_addAll_0 : List UInt8 := dkwJ2_addAll_0 ++ dktJ2_addAll_1
theorem dksJ2_addAll_0 : cJ2_addAll.data.toList.drop 0 = dktJ2_addAll_0 := by decide +kernel
theorem dksJ2_addAll_1 : cJ2_addAll.data.toList.drop 24 = dktJ2_addAll_1 := dk_seg dksJ2_addAll_0 24 rfl rfl
theorem dksJ2_addAll_2 : cJ2_addAll.data.toList.drop 47 = dktJ2_addAll_2 := dk_seg dksJ2_addAll_1 23 rfl rfl
theorem dksJ2_addAll_3 : cJ2_addAll.data.toList.drop 71 = dktJ2_addAll_3 := dk_seg dksJ2_addAll_2 24 rfl rfl
theorem dJ2_addAll_0 : decode cJ2_addAll 0 = .ok (.aload_n 1, 1) := dk_43 (dk_at dksJ2_addAll_0 0 rfl rfl)
theorem dJ2_addAll_1 : decode cJ2_addAll 1 = .ok (.invokeinterface 42 1, 5) := by decide +kernel
theorem dJ2_addAll_6 : decode cJ2_addAll 6 = .ok (.astore_n 2, 1) := dk_77 (dk_at dksJ2_addAll_0 6 rfl rfl)
theorem dJ2_addAll_7 : decode cJ2_addAll 7 = .ok (.aload_n 0, 1) := dk_42 (dk_at dksJ2_addAll_0 7 rfl rfl)
theorem dJ2_addAll_8 : decode cJ2_addAll 8 = .ok (.dup, 1) := dk_89 (dk_at dksJ2_addAll_0 8 rfl rfl)
theorem dJ2_addAll_9 : decode cJ2_addAll 9 = .ok (.getfield 63, 3) := dk_180 0 63 (dk_at dksJ2_addAll_0 9 rfl rfl)
theorem dJ2_addAll_12 : decode cJ2_addAll 12 = .ok (.iconst 1, 1) := dk_4 (dk_at dksJ2_addAll_0 12 rfl rfl)
theorem dJ2_addAll_13 : decode cJ2_addAll 13 = .ok (.iadd, 1) := dk_96 (dk_at dksJ2_addAll_0 13 rfl rfl)
theorem dJ2_addAll_14 : decode cJ2_addAll 14 = .ok (.putfield 63, 3) := dk_181 0 63 (dk_at dksJ2_addAll_0 14 rfl rfl)
theorem dJ2_addAll_17 : decode cJ2_addAll 17 = .ok (.aload_n 2, 1) := dk_44 (dk_at dksJ2_addAll_0 17 rfl rfl)
theorem dJ2_addAll_18 : decode cJ2_addAll 18 = .ok (.arraylength, 1) := dk_190 (dk_at dksJ2_addAll_0 18 rfl rfl)
theorem dJ2_addAll_19 : decode cJ2_addAll 19 = .ok (.istore_n 3, 1) := dk_62 (dk_at dksJ2_addAll_0 19 rfl rfl)
theorem dJ2_addAll_20 : decode cJ2_addAll 20 = .ok (.iload_n 3, 1) := dk_29 (dk_at dksJ2_addAll_0 20 rfl rfl)
theorem dJ2_addAll_21 : decode cJ2_addAll 21 = .ok (.ifCond .ne 5, 3) := dk_154 0 5 (dk_at dksJ2_addAll_0 21 rfl rfl)
theorem dJ2_addAll_24 : decode cJ2_addAll 24 = .ok (.iconst 0, 1) := dk_3 (dk_at dksJ2_addAll_1 0 rfl rfl)
theorem dJ2_addAll_25 : decode cJ2_addAll 25 = .ok (.ireturn, 1) := dk_172 (dk_at dksJ2_addAll_1 1 rfl rfl)
theorem dJ2_addAll_26 : decode cJ2_addAll 26 = .ok (.iload_n 3, 1) := dk_29 (dk_at dksJ2_addAll_1 2 rfl rfl)
theorem dJ2_addAll_27 : decode cJ2_addAll 27 = .ok (.aload_n 0, 1) := dk_42 (dk_at dksJ2_addAll_1 3 rfl rfl)
theorem dJ2_addAll_28 : decode cJ2_addAll 28 = .ok (.getfield 9, 3) := dk_180 0 9 (dk_at dksJ2_addAll_1 4 rfl rfl)
theorem dJ2_addAll_31 : decode cJ2_addAll 31 = .ok (.dup, 1) := dk_89 (dk_at dksJ2_addAll_1 7 rfl rfl)
theorem dJ2_addAll_32 : decode cJ2_addAll 32 = .ok (.astore 4, 2) := dk_58 4 (dk_at dksJ2_addAll_1 8 rfl rfl)
theorem dJ2_addAll_34 : decode cJ2_addAll 34 = .ok (.arraylength, 1) := dk_190 (dk_at dksJ2_addAll_1 10 rfl rfl)
theorem dJ2_addAll_35 : decode cJ2_addAll 35 = .ok (.aload_n 0, 1) := dk_42 (dk_at dksJ2_addAll_1 11 rfl rfl)
theorem dJ2_addAll_36 : decode cJ2_addAll 36 = .ok (.getfield 48, 3) := dk_180 0 48 (dk_at dksJ2_addAll_1 12 rfl rfl)
theorem dJ2_addAll_39 : decode cJ2_addAll 39 = .ok (.dup, 1) := dk_89 (dk_at dksJ2_addAll_1 15 rfl rfl)
theorem dJ2_addAll_40 : decode cJ2_addAll 40 = .ok (.istore 5, 2) := dk_54 5 (dk_at dksJ2_addAll_1 16 rfl rfl)
theorem dJ2_addAll_42 : decode cJ2_addAll 42 = .ok (.isub, 1) := dk_100 (dk_at dksJ2_addAll_1 18 rfl rfl)
theorem dJ2_addAll_43 : decode cJ2_addAll 43 = .ok (.if_icmp .le 13, 3) := dk_164 0 13 (dk_at dksJ2_addAll_1 19 rfl rfl)
theorem dJ2_addAll_46 : decode cJ2_addAll 46 = .ok (.aload_n 0, 1) := dk_42 (dk_at dksJ2_addAll_1 22 rfl rfl)
theorem dJ2_addAll_47 : decode cJ2_addAll 47 = .ok (.iload 5, 2) := dk_21 5 (dk_at dksJ2_addAll_2 0 rfl rfl)
theorem dJ2_addAll_49 : decode cJ2_addAll 49 = .ok (.iload_n 3, 1) := dk_29 (dk_at dksJ2_addAll_2 2 rfl rfl)
theorem dJ2_addAll_50 : decode cJ2_addAll 50 = .ok (.iadd, 1) := dk_96 (dk_at dksJ2_addAll_2 3 rfl rfl)
theorem dJ2_addAll_51 : decode cJ2_addAll 51 = .ok (.invokevirtual 69, 3) := dk_182 0 69 (dk_at dksJ2_addAll_2 4 rfl rfl)
theorem dJ2_addAll_54 : decode cJ2_addAll 54 = .ok (.astore 4, 2) := dk_58 4 (dk_at dksJ2_addAll_2 7 rfl rfl)
theorem dJ2_addAll_56 : decode cJ2_addAll 56 = .ok (.aload_n 2, 1) := dk_44 (dk_at dksJ2_addAll_2 9 rfl rfl)
theorem dJ2_addAll_57 : decode cJ2_addAll 57 = .ok (.iconst 0, 1) := dk_3 (dk_at dksJ2_addAll_2 10 rfl rfl)
theorem dJ2_addAll_58 : decode cJ2_addAll 58 = .ok (.aload 4, 2) := dk_25 4 (dk_at dksJ2_addAll_2 11 rfl rfl)
theorem dJ2_addAll_60 : decode cJ2_addAll 60 = .ok (.iload 5, 2) := dk_21 5 (dk_at dksJ2_addAll_2 13 rfl rfl)
theorem dJ2_addAll_62 : decode cJ2_addAll 62 = .ok (.iload_n 3, 1) := dk_29 (dk_at dksJ2_addAll_2 15 rfl rfl)
theorem dJ2_addAll_63 : decode cJ2_addAll 63 = .ok (.invokestatic 112, 3) := dk_184 0 112 (dk_at dksJ2_addAll_2 16 rfl rfl)
theorem dJ2_addAll_66 : decode cJ2_addAll 66 = .ok (.aload_n 0, 1) := dk_42 (dk_at dksJ2_addAll_2 19 rfl rfl)
theorem dJ2_addAll_67 : decode cJ2_addAll 67 = .ok (.iload 5, 2) := dk_21 5 (dk_at dksJ2_addAll_2 20 rfl rfl)
theorem dJ2_addAll_69 : decode cJ2_addAll 69 = .ok (.iload_n 3, 1) := dk_29 (dk_at dksJ2_addAll_2 22 rfl rfl)
theorem dJ2_addAll_70 : decode cJ2_addAll 70 = .ok (.iadd, 1) := dk_96 (dk_at dksJ2_addAll_2 23 rfl rfl)
theorem dJ2_addAll_71 : decode cJ2_addAll 71 = .ok (.putfield 48, 3) := dk_181 0 48 (dk_at dksJ2_addAll_3 0 rfl rfl)
theorem dJ2_addAll_74 : decode cJ2_addAll 74 = .ok (.iconst 1, 1) := dk_4 (dk_at dksJ2_addAll_3 3 rfl rfl)
theorem dJ2_addAll_75 : decode cJ2_addAll 75 = .ok (.ireturn, 1) := dk_172 (dk_at dksJ2_addAll_3 4 rfl rfl)
abbrev cJ2_toArray : ByteArray := prog_54_method_16_code
def yJ2_toArray : MethodName := ⟨RJ2, "toArray", "()[Ljava/lang/Object;"⟩
def dkwJ2_toArray_0 : List UInt8 := [42, 180, 0, 9, 42, 180, 0, 48, 184, 0, 66, 176]
abbrev dktJ2_toArray_0 : List UInt8 := dkwJ2_toArray_0 ++ []
theorem dksJ2_toArray_0 : cJ2_toArray.data.toList.drop 0 = dktJ2_toArray_0 := by decide +kernel
theorem dJ2_toArray_0 : decode cJ2_toArray 0 = .ok (.aload_n 0, 1) := dk_42 (dk_at dksJ2_toArray_0 0 rfl rfl)
theorem dJ2_toArray_1 : decode cJ2_toArray 1 = .ok (.getfield 9, 3) := dk_180 0 9 (dk_at dksJ2_toArray_0 1 rfl rfl)
theorem dJ2_toArray_4 : decode cJ2_toArray 4 = .ok (.aload_n 0, 1) := dk_42 (dk_at dksJ2_toArray_0 4 rfl rfl)
theorem dJ2_toArray_5 : decode cJ2_toArray 5 = .ok (.getfield 48, 3) := dk_180 0 48 (dk_at dksJ2_toArray_0 5 rfl rfl)
theorem dJ2_toArray_8 : decode cJ2_toArray 8 = .ok (.invokestatic 66, 3) := dk_184 0 66 (dk_at dksJ2_toArray_0 8 rfl rfl)
theorem dJ2_toArray_11 : decode cJ2_toArray 11 = .ok (.areturn, 1) := dk_176 (dk_at dksJ2_toArray_0 11 rfl rfl)
abbrev cJ2_size : ByteArray := prog_54_method_8_code
def yJ2_size : MethodName := ⟨RJ2, "size", "()I"⟩
theorem dJ2_size_0 : decode cJ2_size 0 = .ok (.aload_n 0, 1) := by decide +kernel
theorem dJ2_size_1 : decode cJ2_size 1 = .ok (.getfield 48, 3) := by decide +kernel
theorem dJ2_size_4 : decode cJ2_size 4 = .ok (.ireturn, 1) := by decide +kernel
abbrev cJ2_remove : ByteArray := prog_54_method_29_code
def yJ2_remove : MethodName := ⟨RJ2, "remove", "(I)Ljava/lang/Object;"⟩
def dkwJ2_remove_1 : List UInt8 := [45, 176]
abbrev dktJ2_remove_1 : List UInt8 := dkwJ2_remove_1 ++ []
def dkwJ2_remove_0 : List UInt8 := [27, 42, 180, 0, 48, 184, 0, 118, 87, 42, 180, 0, 9, 77, 44, 27, 50, 78, 42, 44, 27, 182, 0, 144]
abbrev dktJ2_remove_0 : List UInt8 := dkwJ2_remove_0 ++ dktJ2_remove_1
theorem dksJ2_remove_0 : cJ2_remove.data.toList.drop 0 = dktJ2_remove_0 := by decide +kernel
theorem dksJ2_remove_1 : cJ2_remove.data.toList.drop 24 = dktJ2_remove_1 := dk_seg dksJ2_remove_0 24 rfl rfl
theorem dJ2_remove_0 : decode cJ2_remove 0 = .ok (.iload_n 1, 1) := dk_27 (dk_at dksJ2_remove_0 0 rfl rfl)
theorem dJ2_remove_1 : decode cJ2_remove 1 = .ok (.aload_n 0, 1) := dk_42 (dk_at dksJ2_remove_0 1 rfl rfl)
theorem dJ2_remove_2 : decode cJ2_remove 2 = .ok (.getfield 48, 3) := dk_180 0 48 (dk_at dksJ2_remove_0 2 rfl rfl)
theorem dJ2_remove_5 : decode cJ2_remove 5 = .ok (.invokestatic 118, 3) := dk_184 0 118 (dk_at dksJ2_remove_0 5 rfl rfl)
theorem dJ2_remove_8 : decode cJ2_remove 8 = .ok (.pop, 1) := dk_87 (dk_at dksJ2_remove_0 8 rfl rfl)
theorem dJ2_remove_9 : decode cJ2_remove 9 = .ok (.aload_n 0, 1) := dk_42 (dk_at dksJ2_remove_0 9 rfl rfl)
theorem dJ2_remove_10 : decode cJ2_remove 10 = .ok (.getfield 9, 3) := dk_180 0 9 (dk_at dksJ2_remove_0 10 rfl rfl)
theorem dJ2_remove_13 : decode cJ2_remove 13 = .ok (.astore_n 2, 1) := dk_77 (dk_at dksJ2_remove_0 13 rfl rfl)
theorem dJ2_remove_14 : decode cJ2_remove 14 = .ok (.aload_n 2, 1) := dk_44 (dk_at dksJ2_remove_0 14 rfl rfl)
theorem dJ2_remove_15 : decode cJ2_remove 15 = .ok (.iload_n 1, 1) := dk_27 (dk_at dksJ2_remove_0 15 rfl rfl)
theorem dJ2_remove_16 : decode cJ2_remove 16 = .ok (.aaload, 1) := dk_50 (dk_at dksJ2_remove_0 16 rfl rfl)
theorem dJ2_remove_17 : decode cJ2_remove 17 = .ok (.astore_n 3, 1) := dk_78 (dk_at dksJ2_remove_0 17 rfl rfl)
theorem dJ2_remove_18 : decode cJ2_remove 18 = .ok (.aload_n 0, 1) := dk_42 (dk_at dksJ2_remove_0 18 rfl rfl)
theorem dJ2_remove_19 : decode cJ2_remove 19 = .ok (.aload_n 2, 1) := dk_44 (dk_at dksJ2_remove_0 19 rfl rfl)
theorem dJ2_remove_20 : decode cJ2_remove 20 = .ok (.iload_n 1, 1) := dk_27 (dk_at dksJ2_remove_0 20 rfl rfl)
theorem dJ2_remove_21 : decode cJ2_remove 21 = .ok (.invokevirtual 144, 3) := dk_182 0 144 (dk_at dksJ2_remove_0 21 rfl rfl)
theorem dJ2_remove_24 : decode cJ2_remove 24 = .ok (.aload_n 3, 1) := dk_45 (dk_at dksJ2_remove_1 0 rfl rfl)
theorem dJ2_remove_25 : decode cJ2_remove 25 = .ok (.areturn, 1) := dk_176 (dk_at dksJ2_remove_1 1 rfl rfl)
abbrev cJ2_fastRemove : ByteArray := prog_54_method_39_code
def yJ2_fastRemove : MethodName := ⟨RJ2, "fastRemove", "([Ljava/lang/Object;I)V"⟩
def dkwJ2_fastRemove_1 : List UInt8 := [4, 96, 43, 28, 29, 28, 100, 184, 0, 112, 43, 42, 29, 90, 181, 0, 48, 1, 83, 177]
abbrev dktJ2_fastRemove_1 : List UInt8 := dkwJ2_fastRemove_1 ++ []
def dkwJ2_fastRemove_0 : List UInt8 := [42, 89, 180, 0, 63, 4, 96, 181, 0, 63, 42, 180, 0, 48, 4, 100, 89, 62, 28, 164, 0, 15, 43, 28]
abbrev dktJ2_fastRemove_0 : List UInt8 := dkwJ2_fastRemove_0 ++ dktJ2_fastRemove_1
theorem dksJ2_fastRemove_0 : cJ2_fastRemove.data.toList.drop 0 = dktJ2_fastRemove_0 := by decide +kernel
theorem dksJ2_fastRemove_1 : cJ2_fastRemove.data.toList.drop 24 = dktJ2_fastRemove_1 := dk_seg dksJ2_fastRemove_0 24 rfl rfl
theorem dJ2_fastRemove_0 : decode cJ2_fastRemove 0 = .ok (.aload_n 0, 1) := dk_42 (dk_at dksJ2_fastRemove_0 0 rfl rfl)
theorem dJ2_fastRemove_1 : decode cJ2_fastRemove 1 = .ok (.dup, 1) := dk_89 (dk_at dksJ2_fastRemove_0 1 rfl rfl)
theorem dJ2_fastRemove_2 : decode cJ2_fastRemove 2 = .ok (.getfield 63, 3) := dk_180 0 63 (dk_at dksJ2_fastRemove_0 2 rfl rfl)
theorem dJ2_fastRemove_5 : decode cJ2_fastRemove 5 = .ok (.iconst 1, 1) := dk_4 (dk_at dksJ2_fastRemove_0 5 rfl rfl)
theorem dJ2_fastRemove_6 : decode cJ2_fastRemove 6 = .ok (.iadd, 1) := dk_96 (dk_at dksJ2_fastRemove_0 6 rfl rfl)
theorem dJ2_fastRemove_7 : decode cJ2_fastRemove 7 = .ok (.putfield 63, 3) := dk_181 0 63 (dk_at dksJ2_fastRemove_0 7 rfl rfl)
theorem dJ2_fastRemove_10 : decode cJ2_fastRemove 10 = .ok (.aload_n 0, 1) := dk_42 (dk_at dksJ2_fastRemove_0 10 rfl rfl)
theorem dJ2_fastRemove_11 : decode cJ2_fastRemove 11 = .ok (.getfield 48, 3) := dk_180 0 48 (dk_at dksJ2_fastRemove_0 11 rfl rfl)
theorem dJ2_fastRemove_14 : decode cJ2_fastRemove 14 = .ok (.iconst 1, 1) := dk_4 (dk_at dksJ2_fastRemove_0 14 rfl rfl)
theorem dJ2_fastRemove_15 : decode cJ2_fastRemove 15 = .ok (.isub, 1) := dk_100 (dk_at dksJ2_fastRemove_0 15 rfl rfl)
theorem dJ2_fastRemove_16 : decode cJ2_fastRemove 16 = .ok (.dup, 1) := dk_89 (dk_at dksJ2_fastRemove_0 16 rfl rfl)
theorem dJ2_fastRemove_17 : decode cJ2_fastRemove 17 = .ok (.istore_n 3, 1) := dk_62 (dk_at dksJ2_fastRemove_0 17 rfl rfl)
theorem dJ2_fastRemove_18 : decode cJ2_fastRemove 18 = .ok (.iload_n 2, 1) := dk_28 (dk_at dksJ2_fastRemove_0 18 rfl rfl)
theorem dJ2_fastRemove_19 : decode cJ2_fastRemove 19 = .ok (.if_icmp .le 15, 3) := dk_164 0 15 (dk_at dksJ2_fastRemove_0 19 rfl rfl)
theorem dJ2_fastRemove_22 : decode cJ2_fastRemove 22 = .ok (.aload_n 1, 1) := dk_43 (dk_at dksJ2_fastRemove_0 22 rfl rfl)
theorem dJ2_fastRemove_23 : decode cJ2_fastRemove 23 = .ok (.iload_n 2, 1) := dk_28 (dk_at dksJ2_fastRemove_0 23 rfl rfl)
theorem dJ2_fastRemove_24 : decode cJ2_fastRemove 24 = .ok (.iconst 1, 1) := dk_4 (dk_at dksJ2_fastRemove_1 0 rfl rfl)
theorem dJ2_fastRemove_25 : decode cJ2_fastRemove 25 = .ok (.iadd, 1) := dk_96 (dk_at dksJ2_fastRemove_1 1 rfl rfl)
theorem dJ2_fastRemove_26 : decode cJ2_fastRemove 26 = .ok (.aload_n 1, 1) := dk_43 (dk_at dksJ2_fastRemove_1 2 rfl rfl)
theorem dJ2_fastRemove_27 : decode cJ2_fastRemove 27 = .ok (.iload_n 2, 1) := dk_28 (dk_at dksJ2_fastRemove_1 3 rfl rfl)
theorem dJ2_fastRemove_28 : decode cJ2_fastRemove 28 = .ok (.iload_n 3, 1) := dk_29 (dk_at dksJ2_fastRemove_1 4 rfl rfl)
theorem dJ2_fastRemove_29 : decode cJ2_fastRemove 29 = .ok (.iload_n 2, 1) := dk_28 (dk_at dksJ2_fastRemove_1 5 rfl rfl)
theorem dJ2_fastRemove_30 : decode cJ2_fastRemove 30 = .ok (.isub, 1) := dk_100 (dk_at dksJ2_fastRemove_1 6 rfl rfl)
theorem dJ2_fastRemove_31 : decode cJ2_fastRemove 31 = .ok (.invokestatic 112, 3) := dk_184 0 112 (dk_at dksJ2_fastRemove_1 7 rfl rfl)
theorem dJ2_fastRemove_34 : decode cJ2_fastRemove 34 = .ok (.aload_n 1, 1) := dk_43 (dk_at dksJ2_fastRemove_1 10 rfl rfl)
theorem dJ2_fastRemove_35 : decode cJ2_fastRemove 35 = .ok (.aload_n 0, 1) := dk_42 (dk_at dksJ2_fastRemove_1 11 rfl rfl)
theorem dJ2_fastRemove_36 : decode cJ2_fastRemove 36 = .ok (.iload_n 3, 1) := dk_29 (dk_at dksJ2_fastRemove_1 12 rfl rfl)
theorem dJ2_fastRemove_37 : decode cJ2_fastRemove 37 = .ok (.dup_x1, 1) := dk_90 (dk_at dksJ2_fastRemove_1 13 rfl rfl)
theorem dJ2_fastRemove_38 : decode cJ2_fastRemove 38 = .ok (.putfield 48, 3) := dk_181 0 48 (dk_at dksJ2_fastRemove_1 14 rfl rfl)
theorem dJ2_fastRemove_41 : decode cJ2_fastRemove 41 = .ok (.aconst_null, 1) := dk_1 (dk_at dksJ2_fastRemove_1 17 rfl rfl)
theorem dJ2_fastRemove_42 : decode cJ2_fastRemove 42 = .ok (.aastore, 1) := dk_83 (dk_at dksJ2_fastRemove_1 18 rfl rfl)
theorem dJ2_fastRemove_43 : decode cJ2_fastRemove 43 = .ok (.return_, 1) := dk_177 (dk_at dksJ2_fastRemove_1 19 rfl rfl)
abbrev cJ2_indexOf : ByteArray := prog_54_method_11_code
def yJ2_indexOf : MethodName := ⟨RJ2, "indexOf", "(Ljava/lang/Object;)I"⟩
def dkwJ2_indexOf_0 : List UInt8 := [42, 43, 3, 42, 180, 0, 48, 182, 0, 89, 172]
abbrev dktJ2_indexOf_0 : List UInt8 := dkwJ2_indexOf_0 ++ []
theorem dksJ2_indexOf_0 : cJ2_indexOf.data.toList.drop 0 = dktJ2_indexOf_0 := by decide +kernel
theorem dJ2_indexOf_0 : decode cJ2_indexOf 0 = .ok (.aload_n 0, 1) := dk_42 (dk_at dksJ2_indexOf_0 0 rfl rfl)
theorem dJ2_indexOf_1 : decode cJ2_indexOf 1 = .ok (.aload_n 1, 1) := dk_43 (dk_at dksJ2_indexOf_0 1 rfl rfl)
theorem dJ2_indexOf_2 : decode cJ2_indexOf 2 = .ok (.iconst 0, 1) := dk_3 (dk_at dksJ2_indexOf_0 2 rfl rfl)
theorem dJ2_indexOf_3 : decode cJ2_indexOf 3 = .ok (.aload_n 0, 1) := dk_42 (dk_at dksJ2_indexOf_0 3 rfl rfl)
theorem dJ2_indexOf_4 : decode cJ2_indexOf 4 = .ok (.getfield 48, 3) := dk_180 0 48 (dk_at dksJ2_indexOf_0 4 rfl rfl)
theorem dJ2_indexOf_7 : decode cJ2_indexOf 7 = .ok (.invokevirtual 89, 3) := dk_182 0 89 (dk_at dksJ2_indexOf_0 7 rfl rfl)
theorem dJ2_indexOf_10 : decode cJ2_indexOf 10 = .ok (.ireturn, 1) := dk_172 (dk_at dksJ2_indexOf_0 10 rfl rfl)
abbrev cJ2_indexOfRange : ByteArray := prog_54_method_12_code
def yJ2_indexOfRange : MethodName := ⟨RJ2, "indexOfRange", "(Ljava/lang/Object;II)I"⟩
def dkwJ2_indexOfRange_2 : List UInt8 := [43, 25, 4, 21, 5, 50, 182, 0, 93, 153, 0, 6, 21, 5, 172, 132, 5, 1, 167, 255, 232, 2, 172]
abbrev dktJ2_indexOfRange_2 : List UInt8 := dkwJ2_indexOfRange_2 ++ []
def dkwJ2_indexOfRange_1 : List UInt8 := [199, 0, 6, 21, 5, 172, 132, 5, 1, 167, 255, 236, 167, 0, 33, 28, 54, 5, 21, 5, 29, 162, 0, 24]
abbrev dktJ2_indexOfRange_1 : List UInt8 := dkwJ2_indexOfRange_1 ++ dktJ2_indexOfRange_2
def dkwJ2_indexOfRange_0 : List UInt8 := [42, 180, 0, 9, 58, 4, 43, 199, 0, 32, 28, 54, 5, 21, 5, 29, 162, 0, 20, 25, 4, 21, 5, 50]
abbrev dktJ2_indexOfRange_0 : List UInt8 := dkwJ2_indexOfRange_0 ++ dktJ2_indexOfRange_1
theorem dksJ2_indexOfRange_0 : cJ2_indexOfRange.data.toList.drop 0 = dktJ2_indexOfRange_0 := by decide +kernel
theorem dksJ2_indexOfRange_1 : cJ2_indexOfRange.data.toList.drop 24 = dktJ2_indexOfRange_1 := dk_seg dksJ2_indexOfRange_0 24 rfl rfl
theorem dksJ2_indexOfRange_2 : cJ2_indexOfRange.data.toList.drop 48 = dktJ2_indexOfRange_2 := dk_seg dksJ2_indexOfRange_1 24 rfl rfl
theorem dJ2_indexOfRange_0 : decode cJ2_indexOfRange 0 = .ok (.aload_n 0, 1) := dk_42 (dk_at dksJ2_indexOfRange_0 0 rfl rfl)
theorem dJ2_indexOfRange_1 : decode cJ2_indexOfRange 1 = .ok (.getfield 9, 3) := dk_180 0 9 (dk_at dksJ2_indexOfRange_0 1 rfl rfl)
theorem dJ2_indexOfRange_4 : decode cJ2_indexOfRange 4 = .ok (.astore 4, 2) := dk_58 4 (dk_at dksJ2_indexOfRange_0 4 rfl rfl)
theorem dJ2_indexOfRange_6 : decode cJ2_indexOfRange 6 = .ok (.aload_n 1, 1) := dk_43 (dk_at dksJ2_indexOfRange_0 6 rfl rfl)
theorem dJ2_indexOfRange_7 : decode cJ2_indexOfRange 7 = .ok (.ifnonnull 32, 3) := dk_199 0 32 (dk_at dksJ2_indexOfRange_0 7 rfl rfl)
theorem dJ2_indexOfRange_10 : decode cJ2_indexOfRange 10 = .ok (.iload_n 2, 1) := dk_28 (dk_at dksJ2_indexOfRange_0 10 rfl rfl)
theorem dJ2_indexOfRange_11 : decode cJ2_indexOfRange 11 = .ok (.istore 5, 2) := dk_54 5 (dk_at dksJ2_indexOfRange_0 11 rfl rfl)
theorem dJ2_indexOfRange_13 : decode cJ2_indexOfRange 13 = .ok (.iload 5, 2) := dk_21 5 (dk_at dksJ2_indexOfRange_0 13 rfl rfl)
theorem dJ2_indexOfRange_15 : decode cJ2_indexOfRange 15 = .ok (.iload_n 3, 1) := dk_29 (dk_at dksJ2_indexOfRange_0 15 rfl rfl)
theorem dJ2_indexOfRange_16 : decode cJ2_indexOfRange 16 = .ok (.if_icmp .ge 20, 3) := dk_162 0 20 (dk_at dksJ2_indexOfRange_0 16 rfl rfl)
theorem dJ2_indexOfRange_19 : decode cJ2_indexOfRange 19 = .ok (.aload 4, 2) := dk_25 4 (dk_at dksJ2_indexOfRange_0 19 rfl rfl)
theorem dJ2_indexOfRange_21 : decode cJ2_indexOfRange 21 = .ok (.iload 5, 2) := dk_21 5 (dk_at dksJ2_indexOfRange_0 21 rfl rfl)
theorem dJ2_indexOfRange_23 : decode cJ2_indexOfRange 23 = .ok (.aaload, 1) := dk_50 (dk_at dksJ2_indexOfRange_0 23 rfl rfl)
theorem dJ2_indexOfRange_24 : decode cJ2_indexOfRange 24 = .ok (.ifnonnull 6, 3) := dk_199 0 6 (dk_at dksJ2_indexOfRange_1 0 rfl rfl)
theorem dJ2_indexOfRange_27 : decode cJ2_indexOfRange 27 = .ok (.iload 5, 2) := dk_21 5 (dk_at dksJ2_indexOfRange_1 3 rfl rfl)
theorem dJ2_indexOfRange_29 : decode cJ2_indexOfRange 29 = .ok (.ireturn, 1) := dk_172 (dk_at dksJ2_indexOfRange_1 5 rfl rfl)
theorem dJ2_indexOfRange_30 : decode cJ2_indexOfRange 30 = .ok (.iinc 5 1, 3) := dk_132 5 1 (dk_at dksJ2_indexOfRange_1 6 rfl rfl)
theorem dJ2_indexOfRange_33 : decode cJ2_indexOfRange 33 = .ok (.goto (-20), 3) := dk_167 255 236 (dk_at dksJ2_indexOfRange_1 9 rfl rfl)
theorem dJ2_indexOfRange_36 : decode cJ2_indexOfRange 36 = .ok (.goto 33, 3) := dk_167 0 33 (dk_at dksJ2_indexOfRange_1 12 rfl rfl)
theorem dJ2_indexOfRange_39 : decode cJ2_indexOfRange 39 = .ok (.iload_n 2, 1) := dk_28 (dk_at dksJ2_indexOfRange_1 15 rfl rfl)
theorem dJ2_indexOfRange_40 : decode cJ2_indexOfRange 40 = .ok (.istore 5, 2) := dk_54 5 (dk_at dksJ2_indexOfRange_1 16 rfl rfl)
theorem dJ2_indexOfRange_42 : decode cJ2_indexOfRange 42 = .ok (.iload 5, 2) := dk_21 5 (dk_at dksJ2_indexOfRange_1 18 rfl rfl)
theorem dJ2_indexOfRange_44 : decode cJ2_indexOfRange 44 = .ok (.iload_n 3, 1) := dk_29 (dk_at dksJ2_indexOfRange_1 20 rfl rfl)
theorem dJ2_indexOfRange_45 : decode cJ2_indexOfRange 45 = .ok (.if_icmp .ge 24, 3) := dk_162 0 24 (dk_at dksJ2_indexOfRange_1 21 rfl rfl)
theorem dJ2_indexOfRange_48 : decode cJ2_indexOfRange 48 = .ok (.aload_n 1, 1) := dk_43 (dk_at dksJ2_indexOfRange_2 0 rfl rfl)
theorem dJ2_indexOfRange_49 : decode cJ2_indexOfRange 49 = .ok (.aload 4, 2) := dk_25 4 (dk_at dksJ2_indexOfRange_2 1 rfl rfl)
theorem dJ2_indexOfRange_51 : decode cJ2_indexOfRange 51 = .ok (.iload 5, 2) := dk_21 5 (dk_at dksJ2_indexOfRange_2 3 rfl rfl)
theorem dJ2_indexOfRange_53 : decode cJ2_indexOfRange 53 = .ok (.aaload, 1) := dk_50 (dk_at dksJ2_indexOfRange_2 5 rfl rfl)
theorem dJ2_indexOfRange_54 : decode cJ2_indexOfRange 54 = .ok (.invokevirtual 93, 3) := dk_182 0 93 (dk_at dksJ2_indexOfRange_2 6 rfl rfl)
theorem dJ2_indexOfRange_57 : decode cJ2_indexOfRange 57 = .ok (.ifCond .eq 6, 3) := dk_153 0 6 (dk_at dksJ2_indexOfRange_2 9 rfl rfl)
theorem dJ2_indexOfRange_60 : decode cJ2_indexOfRange 60 = .ok (.iload 5, 2) := dk_21 5 (dk_at dksJ2_indexOfRange_2 12 rfl rfl)
theorem dJ2_indexOfRange_62 : decode cJ2_indexOfRange 62 = .ok (.ireturn, 1) := dk_172 (dk_at dksJ2_indexOfRange_2 14 rfl rfl)
theorem dJ2_indexOfRange_63 : decode cJ2_indexOfRange 63 = .ok (.iinc 5 1, 3) := dk_132 5 1 (dk_at dksJ2_indexOfRange_2 15 rfl rfl)
theorem dJ2_indexOfRange_66 : decode cJ2_indexOfRange 66 = .ok (.goto (-24), 3) := dk_167 255 232 (dk_at dksJ2_indexOfRange_2 18 rfl rfl)
theorem dJ2_indexOfRange_69 : decode cJ2_indexOfRange 69 = .ok (.iconst (-1), 1) := dk_2 (dk_at dksJ2_indexOfRange_2 21 rfl rfl)
theorem dJ2_indexOfRange_70 : decode cJ2_indexOfRange 70 = .ok (.ireturn, 1) := dk_172 (dk_at dksJ2_indexOfRange_2 22 rfl rfl)
abbrev cJ2_set : ByteArray := prog_54_method_23_code
def yJ2_set : MethodName := ⟨RJ2, "set", "(ILjava/lang/Object;)Ljava/lang/Object;"⟩
def dkwJ2_set_0 : List UInt8 := [27, 42, 180, 0, 48, 184, 0, 118, 87, 42, 27, 182, 0, 123, 78, 42, 180, 0, 9, 27, 44, 83, 45, 176]
abbrev dktJ2_set_0 : List UInt8 := dkwJ2_set_0 ++ []
theorem dksJ2_set_0 : cJ2_set.data.toList.drop 0 = dktJ2_set_0 := by decide +kernel
theorem dJ2_set_0 : decode cJ2_set 0 = .ok (.iload_n 1, 1) := dk_27 (dk_at dksJ2_set_0 0 rfl rfl)
theorem dJ2_set_1 : decode cJ2_set 1 = .ok (.aload_n 0, 1) := dk_42 (dk_at dksJ2_set_0 1 rfl rfl)
theorem dJ2_set_2 : decode cJ2_set 2 = .ok (.getfield 48, 3) := dk_180 0 48 (dk_at dksJ2_set_0 2 rfl rfl)
theorem dJ2_set_5 : decode cJ2_set 5 = .ok (.invokestatic 118, 3) := dk_184 0 118 (dk_at dksJ2_set_0 5 rfl rfl)
theorem dJ2_set_8 : decode cJ2_set 8 = .ok (.pop, 1) := dk_87 (dk_at dksJ2_set_0 8 rfl rfl)
theorem dJ2_set_9 : decode cJ2_set 9 = .ok (.aload_n 0, 1) := dk_42 (dk_at dksJ2_set_0 9 rfl rfl)
theorem dJ2_set_10 : decode cJ2_set 10 = .ok (.iload_n 1, 1) := dk_27 (dk_at dksJ2_set_0 10 rfl rfl)
theorem dJ2_set_11 : decode cJ2_set 11 = .ok (.invokevirtual 123, 3) := dk_182 0 123 (dk_at dksJ2_set_0 11 rfl rfl)
theorem dJ2_set_14 : decode cJ2_set 14 = .ok (.astore_n 3, 1) := dk_78 (dk_at dksJ2_set_0 14 rfl rfl)
theorem dJ2_set_15 : decode cJ2_set 15 = .ok (.aload_n 0, 1) := dk_42 (dk_at dksJ2_set_0 15 rfl rfl)
theorem dJ2_set_16 : decode cJ2_set 16 = .ok (.getfield 9, 3) := dk_180 0 9 (dk_at dksJ2_set_0 16 rfl rfl)
theorem dJ2_set_19 : decode cJ2_set 19 = .ok (.iload_n 1, 1) := dk_27 (dk_at dksJ2_set_0 19 rfl rfl)
theorem dJ2_set_20 : decode cJ2_set 20 = .ok (.aload_n 2, 1) := dk_44 (dk_at dksJ2_set_0 20 rfl rfl)
theorem dJ2_set_21 : decode cJ2_set 21 = .ok (.aastore, 1) := dk_83 (dk_at dksJ2_set_0 21 rfl rfl)
theorem dJ2_set_22 : decode cJ2_set 22 = .ok (.aload_n 3, 1) := dk_45 (dk_at dksJ2_set_0 22 rfl rfl)
theorem dJ2_set_23 : decode cJ2_set 23 = .ok (.areturn, 1) := dk_176 (dk_at dksJ2_set_0 23 rfl rfl)
abbrev cJ2_clear : ByteArray := prog_54_method_40_code
def yJ2_clear : MethodName := ⟨RJ2, "clear", "()V"⟩
def dkwJ2_clear_1 : List UInt8 := [181, 0, 48, 62, 29, 28, 162, 0, 13, 43, 29, 1, 83, 132, 3, 1, 167, 255, 244, 177]
abbrev dktJ2_clear_1 : List UInt8 := dkwJ2_clear_1 ++ []
def dkwJ2_clear_0 : List UInt8 := [42, 89, 180, 0, 63, 4, 96, 181, 0, 63, 42, 180, 0, 9, 76, 42, 180, 0, 48, 61, 42, 3, 90]
abbrev dktJ2_clear_0 : List UInt8 := dkwJ2_clear_0 ++ dktJ2_clear_1
theorem dksJ2_clear_0 : cJ2_clear.data.toList.drop 0 = dktJ2_clear_0 := by decide +kernel
theorem dksJ2_clear_1 : cJ2_clear.data.toList.drop 23 = dktJ2_clear_1 := dk_seg dksJ2_clear_0 23 rfl rfl
theorem dJ2_clear_0 : decode cJ2_clear 0 = .ok (.aload_n 0, 1) := dk_42 (dk_at dksJ2_clear_0 0 rfl rfl)
theorem dJ2_clear_1 : decode cJ2_clear 1 = .ok (.dup, 1) := dk_89 (dk_at dksJ2_clear_0 1 rfl rfl)
theorem dJ2_clear_2 : decode cJ2_clear 2 = .ok (.getfield 63, 3) := dk_180 0 63 (dk_at dksJ2_clear_0 2 rfl rfl)
theorem dJ2_clear_5 : decode cJ2_clear 5 = .ok (.iconst 1, 1) := dk_4 (dk_at dksJ2_clear_0 5 rfl rfl)
theorem dJ2_clear_6 : decode cJ2_clear 6 = .ok (.iadd, 1) := dk_96 (dk_at dksJ2_clear_0 6 rfl rfl)
theorem dJ2_clear_7 : decode cJ2_clear 7 = .ok (.putfield 63, 3) := dk_181 0 63 (dk_at dksJ2_clear_0 7 rfl rfl)
theorem dJ2_clear_10 : decode cJ2_clear 10 = .ok (.aload_n 0, 1) := dk_42 (dk_at dksJ2_clear_0 10 rfl rfl)
theorem dJ2_clear_11 : decode cJ2_clear 11 = .ok (.getfield 9, 3) := dk_180 0 9 (dk_at dksJ2_clear_0 11 rfl rfl)
theorem dJ2_clear_14 : decode cJ2_clear 14 = .ok (.astore_n 1, 1) := dk_76 (dk_at dksJ2_clear_0 14 rfl rfl)
theorem dJ2_clear_15 : decode cJ2_clear 15 = .ok (.aload_n 0, 1) := dk_42 (dk_at dksJ2_clear_0 15 rfl rfl)
theorem dJ2_clear_16 : decode cJ2_clear 16 = .ok (.getfield 48, 3) := dk_180 0 48 (dk_at dksJ2_clear_0 16 rfl rfl)
theorem dJ2_clear_19 : decode cJ2_clear 19 = .ok (.istore_n 2, 1) := dk_61 (dk_at dksJ2_clear_0 19 rfl rfl)
theorem dJ2_clear_20 : decode cJ2_clear 20 = .ok (.aload_n 0, 1) := dk_42 (dk_at dksJ2_clear_0 20 rfl rfl)
theorem dJ2_clear_21 : decode cJ2_clear 21 = .ok (.iconst 0, 1) := dk_3 (dk_at dksJ2_clear_0 21 rfl rfl)
theorem dJ2_clear_22 : decode cJ2_clear 22 = .ok (.dup_x1, 1) := dk_90 (dk_at dksJ2_clear_0 22 rfl rfl)
theorem dJ2_clear_23 : decode cJ2_clear 23 = .ok (.putfield 48, 3) := dk_181 0 48 (dk_at dksJ2_clear_1 0 rfl rfl)
theorem dJ2_clear_26 : decode cJ2_clear 26 = .ok (.istore_n 3, 1) := dk_62 (dk_at dksJ2_clear_1 3 rfl rfl)
theorem dJ2_clear_27 : decode cJ2_clear 27 = .ok (.iload_n 3, 1) := dk_29 (dk_at dksJ2_clear_1 4 rfl rfl)
theorem dJ2_clear_28 : decode cJ2_clear 28 = .ok (.iload_n 2, 1) := dk_28 (dk_at dksJ2_clear_1 5 rfl rfl)
theorem dJ2_clear_29 : decode cJ2_clear 29 = .ok (.if_icmp .ge 13, 3) := dk_162 0 13 (dk_at dksJ2_clear_1 6 rfl rfl)
theorem dJ2_clear_32 : decode cJ2_clear 32 = .ok (.aload_n 1, 1) := dk_43 (dk_at dksJ2_clear_1 9 rfl rfl)
theorem dJ2_clear_33 : decode cJ2_clear 33 = .ok (.iload_n 3, 1) := dk_29 (dk_at dksJ2_clear_1 10 rfl rfl)
theorem dJ2_clear_34 : decode cJ2_clear 34 = .ok (.aconst_null, 1) := dk_1 (dk_at dksJ2_clear_1 11 rfl rfl)
theorem dJ2_clear_35 : decode cJ2_clear 35 = .ok (.aastore, 1) := dk_83 (dk_at dksJ2_clear_1 12 rfl rfl)
theorem dJ2_clear_36 : decode cJ2_clear 36 = .ok (.iinc 3 1, 3) := dk_132 3 1 (dk_at dksJ2_clear_1 13 rfl rfl)
theorem dJ2_clear_39 : decode cJ2_clear 39 = .ok (.goto (-12), 3) := dk_167 255 244 (dk_at dksJ2_clear_1 16 rfl rfl)
theorem dJ2_clear_42 : decode cJ2_clear 42 = .ok (.return_, 1) := dk_177 (dk_at dksJ2_clear_1 19 rfl rfl)
theorem q78 : (Jvm.Cond.initialized "java/util/ArrayList") ∈ lw_all := lw_g (lw_at lw_m1 5 rfl) rfl
theorem q153 : (Jvm.Cond.instantiable "java/util/ArrayList" (3 : Nat)) ∈ lw_all := lw_g (lw_at lw_m1 80 rfl) rfl
theorem q155 : (Jvm.Cond.instanceMethod ({ cls := "java/util/ArrayList", name := "<init>", desc := "()V" } : Jvm.MethodName)) ∈ lw_all := lw_g (lw_at lw_m1 82 rfl) rfl
theorem q156 : (Jvm.Cond.code ({ cls := "java/util/ArrayList", name := "<init>", desc := "()V" } : Jvm.MethodName) prog_54_method_2_code (1 : Nat) (Option.none : Option Jvm.ClassFile.FieldType)) ∈ lw_all := lw_g (lw_at lw_m1 83 rfl) rfl
theorem q157 : (Jvm.Cond.methodLink "java/util/ArrayList" (1 : Nat) ({ cls := "java/util/AbstractList", name := "<init>", desc := "()V" } : Jvm.MethodName)) ∈ lw_all := lw_g (lw_at lw_m1 84 rfl) rfl
theorem q164 : (Jvm.Cond.fieldLink "java/util/ArrayList" (39 : Nat) "java/util/ArrayList" "DEFAULTCAPACITY_EMPTY_ELEMENTDATA" "[Ljava/lang/Object;") ∈ lw_all := lw_g (lw_at lw_m1 91 rfl) rfl
theorem q166 : (Jvm.Cond.fieldLink "java/util/ArrayList" (9 : Nat) "java/util/ArrayList" "elementData" "[Ljava/lang/Object;") ∈ lw_all := lw_g (lw_at lw_m1 93 rfl) rfl
theorem q169 : (Jvm.Cond.fieldLink "java/util/ArrayList" (48 : Nat) "java/util/ArrayList" "size" "I") ∈ lw_all := lw_g (lw_at lw_m1 96 rfl) rfl
theorem q172 : (Jvm.Cond.sameField "java/util/ArrayList" "java/util/AbstractList" "modCount" "I") ∈ lw_all := lw_g (lw_at lw_m1 99 rfl) rfl
theorem q173 : (Jvm.Cond.fieldLink "java/util/ArrayList" (63 : Nat) "java/util/ArrayList" "modCount" "I") ∈ lw_all := lw_g (lw_at lw_m1 100 rfl) rfl
theorem q345 : (Jvm.Cond.instanceMethod ({ cls := "java/util/ArrayList", name := "iterator", desc := "()Ljava/util/Iterator;" } : Jvm.MethodName)) ∈ lw_all := lw_g (lw_at lw_m2 32 rfl) rfl
theorem q346 : (Jvm.Cond.selects "java/util/ArrayList" ({ cls := "java/util/ArrayList", name := "iterator", desc := "()Ljava/util/Iterator;" } : Jvm.MethodName) ({ cls := "java/util/ArrayList", name := "iterator", desc := "()Ljava/util/Iterator;" } : Jvm.MethodName)) ∈ lw_all := lw_g (lw_at lw_m2 33 rfl) rfl
theorem q347 : (Jvm.Cond.code ({ cls := "java/util/ArrayList", name := "iterator", desc := "()Ljava/util/Iterator;" } : Jvm.MethodName) prog_54_method_55_code (1 : Nat) (Option.some (Jvm.ClassFile.FieldType.object "java/util/Iterator"))) ∈ lw_all := lw_g (lw_at lw_m2 34 rfl) rfl
theorem q348 : (Jvm.Cond.classLink "java/util/ArrayList" (267 : Nat) "java/util/ArrayList$Itr") ∈ lw_all := lw_g (lw_at lw_m2 35 rfl) rfl
theorem q350 : (Jvm.Cond.methodLink "java/util/ArrayList" (269 : Nat) ({ cls := "java/util/ArrayList$Itr", name := "<init>", desc := "(Ljava/util/ArrayList;)V" } : Jvm.MethodName)) ∈ lw_all := lw_g (lw_at lw_m2 37 rfl) rfl
theorem q503 : (Jvm.Cond.instanceMethod ({ cls := "java/util/ArrayList", name := "get", desc := "(I)Ljava/lang/Object;" } : Jvm.MethodName)) ∈ lw_all := lw_g (lw_at lw_m2 190 rfl) rfl
theorem q505 : (Jvm.Cond.code ({ cls := "java/util/ArrayList", name := "get", desc := "(I)Ljava/lang/Object;" } : Jvm.MethodName) prog_54_method_20_code (2 : Nat) (Option.some (Jvm.ClassFile.FieldType.object "java/lang/Object"))) ∈ lw_all := lw_g (lw_at lw_m2 192 rfl) rfl
theorem q506 : (Jvm.Cond.methodLink "java/util/ArrayList" (118 : Nat) ({ cls := "java/util/Objects", name := "checkIndex", desc := "(II)I" } : Jvm.MethodName)) ∈ lw_all := lw_g (lw_at lw_m2 193 rfl) rfl
theorem q512 : (Jvm.Cond.methodLink "java/util/ArrayList" (123 : Nat) ({ cls := "java/util/ArrayList", name := "elementData", desc := "(I)Ljava/lang/Object;" } : Jvm.MethodName)) ∈ lw_all := lw_g (lw_at lw_m2 199 rfl) rfl
theorem q513 : (Jvm.Cond.instanceMethod ({ cls := "java/util/ArrayList", name := "elementData", desc := "(I)Ljava/lang/Object;" } : Jvm.MethodName)) ∈ lw_all := lw_g (lw_at lw_m2 200 rfl) rfl
theorem q514 : (Jvm.Cond.selects "java/util/ArrayList" ({ cls := "java/util/ArrayList", name := "elementData", desc := "(I)Ljava/lang/Object;" } : Jvm.MethodName) ({ cls := "java/util/ArrayList", name := "elementData", desc := "(I)Ljava/lang/Object;" } : Jvm.MethodName)) ∈ lw_all := lw_g (lw_at lw_m2 201 rfl) rfl
theorem q515 : (Jvm.Cond.code ({ cls := "java/util/ArrayList", name := "elementData", desc := "(I)Ljava/lang/Object;" } : Jvm.MethodName) prog_54_method_18_code (2 : Nat) (Option.some (Jvm.ClassFile.FieldType.object "java/lang/Object"))) ∈ lw_all := lw_g (lw_at lw_m2 202 rfl) rfl
theorem q832 : (Jvm.Cond.instanceMethod ({ cls := "java/util/ArrayList", name := "add", desc := "(Ljava/lang/Object;)Z" } : Jvm.MethodName)) ∈ lw_all := lw_g (lw_at lw_m4 39 rfl) rfl
theorem q833 : (Jvm.Cond.selects "java/util/ArrayList" ({ cls := "java/util/ArrayList", name := "add", desc := "(Ljava/lang/Object;)Z" } : Jvm.MethodName) ({ cls := "java/util/ArrayList", name := "add", desc := "(Ljava/lang/Object;)Z" } : Jvm.MethodName)) ∈ lw_all := lw_g (lw_at lw_m4 40 rfl) rfl
theorem q834 : (Jvm.Cond.code ({ cls := "java/util/ArrayList", name := "add", desc := "(Ljava/lang/Object;)Z" } : Jvm.MethodName) prog_54_method_25_code (2 : Nat) (Option.some Jvm.ClassFile.FieldType.boolean)) ∈ lw_all := lw_g (lw_at lw_m4 41 rfl) rfl
theorem q835 : (Jvm.Cond.methodLink "java/util/ArrayList" (131 : Nat) ({ cls := "java/util/ArrayList", name := "add", desc := "(Ljava/lang/Object;[Ljava/lang/Object;I)V" } : Jvm.MethodName)) ∈ lw_all := lw_g (lw_at lw_m4 42 rfl) rfl
theorem q837 : (Jvm.Cond.instanceMethod ({ cls := "java/util/ArrayList", name := "add", desc := "(Ljava/lang/Object;[Ljava/lang/Object;I)V" } : Jvm.MethodName)) ∈ lw_all := lw_g (lw_at lw_m4 44 rfl) rfl
theorem q838 : (Jvm.Cond.code ({ cls := "java/util/ArrayList", name := "add", desc := "(Ljava/lang/Object;[Ljava/lang/Object;I)V" } : Jvm.MethodName) prog_54_method_24_code (4 : Nat) (Option.none : Option Jvm.ClassFile.FieldType)) ∈ lw_all := lw_g (lw_at lw_m4 45 rfl) rfl
theorem q839 : (Jvm.Cond.methodLink "java/util/ArrayList" (129 : Nat) ({ cls := "java/util/ArrayList", name := "grow", desc := "()[Ljava/lang/Object;" } : Jvm.MethodName)) ∈ lw_all := lw_g (lw_at lw_m4 46 rfl) rfl
theorem q841 : (Jvm.Cond.instanceMethod ({ cls := "java/util/ArrayList", name := "grow", desc := "()[Ljava/lang/Object;" } : Jvm.MethodName)) ∈ lw_all := lw_g (lw_at lw_m4 48 rfl) rfl
theorem q842 : (Jvm.Cond.code ({ cls := "java/util/ArrayList", name := "grow", desc := "()[Ljava/lang/Object;" } : Jvm.MethodName) prog_54_method_7_code (1 : Nat) (Option.some (Jvm.ClassFile.FieldType.array (Jvm.ClassFile.FieldType.object "java/lang/Object")))) ∈ lw_all := lw_g (lw_at lw_m4 49 rfl) rfl
theorem q843 : (Jvm.Cond.methodLink "java/util/ArrayList" (69 : Nat) ({ cls := "java/util/ArrayList", name := "grow", desc := "(I)[Ljava/lang/Object;" } : Jvm.MethodName)) ∈ lw_all := lw_g (lw_at lw_m4 50 rfl) rfl
theorem q845 : (Jvm.Cond.instanceMethod ({ cls := "java/util/ArrayList", name := "grow", desc := "(I)[Ljava/lang/Object;" } : Jvm.MethodName)) ∈ lw_all := lw_g (lw_at lw_m4 52 rfl) rfl
theorem q846 : (Jvm.Cond.code ({ cls := "java/util/ArrayList", name := "grow", desc := "(I)[Ljava/lang/Object;" } : Jvm.MethodName) prog_54_method_6_code (4 : Nat) (Option.some (Jvm.ClassFile.FieldType.array (Jvm.ClassFile.FieldType.object "java/lang/Object")))) ∈ lw_all := lw_g (lw_at lw_m4 53 rfl) rfl
theorem q847 : (Jvm.Cond.methodLink "java/util/ArrayList" (73 : Nat) ({ cls := "jdk/internal/util/ArraysSupport", name := "newLength", desc := "(III)I" } : Jvm.MethodName)) ∈ lw_all := lw_g (lw_at lw_m4 54 rfl) rfl
theorem q848 : (Jvm.Cond.methodLink "java/util/ArrayList" (66 : Nat) ({ cls := "java/util/Arrays", name := "copyOf", desc := "([Ljava/lang/Object;I)[Ljava/lang/Object;" } : Jvm.MethodName)) ∈ lw_all := lw_g (lw_at lw_m4 55 rfl) rfl
theorem q897 : (Jvm.Cond.methodLink "java/util/ArrayList" (79 : Nat) ({ cls := "java/lang/Math", name := "max", desc := "(II)I" } : Jvm.MethodName)) ∈ lw_all := lw_g (lw_at lw_m4 104 rfl) rfl
theorem q898 : (Jvm.Cond.classLink "java/util/ArrayList" (7 : Nat) "java/lang/Object") ∈ lw_all := lw_g (lw_at lw_m4 105 rfl) rfl
theorem q991 : (Jvm.Cond.instanceMethod ({ cls := "java/util/ArrayList", name := "addAll", desc := "(Ljava/util/Collection;)Z" } : Jvm.MethodName)) ∈ lw_all := lw_g (lw_at lw_m4 198 rfl) rfl
theorem q992 : (Jvm.Cond.selects "java/util/ArrayList" ({ cls := "java/util/ArrayList", name := "addAll", desc := "(Ljava/util/Collection;)Z" } : Jvm.MethodName) ({ cls := "java/util/ArrayList", name := "addAll", desc := "(Ljava/util/Collection;)Z" } : Jvm.MethodName)) ∈ lw_all := lw_g (lw_at lw_m4 199 rfl) rfl
theorem q993 : (Jvm.Cond.code ({ cls := "java/util/ArrayList", name := "addAll", desc := "(Ljava/util/Collection;)Z" } : Jvm.MethodName) prog_54_method_41_code (6 : Nat) (Option.some Jvm.ClassFile.FieldType.boolean)) ∈ lw_all := lw_g (lw_at lw_m4 200 rfl) rfl
theorem q995 : (Jvm.Cond.methodLink "java/util/ArrayList" (42 : Nat) ({ cls := "java/util/Collection", name := "toArray", desc := "()[Ljava/lang/Object;" } : Jvm.MethodName)) ∈ lw_all := lw_g (lw_at lw_m4 202 rfl) rfl
theorem q998 : (Jvm.Cond.castable "java/util/ArrayList" "java/util/Collection") ∈ lw_tbl := lw_at lw_m4 205 rfl
theorem q999 : (Jvm.Cond.selects "java/util/ArrayList" ({ cls := "java/util/Collection", name := "toArray", desc := "()[Ljava/lang/Object;" } : Jvm.MethodName) ({ cls := "java/util/ArrayList", name := "toArray", desc := "()[Ljava/lang/Object;" } : Jvm.MethodName)) ∈ lw_all := lw_g (lw_at lw_m4 206 rfl) rfl
theorem q1000 : (Jvm.Cond.unhidden "java/util/ArrayList" "toArray" "()[Ljava/lang/Object;") ∈ lw_tbl := lw_at lw_m4 207 rfl
theorem q1001 : (Jvm.Cond.instanceMethod ({ cls := "java/util/ArrayList", name := "toArray", desc := "()[Ljava/lang/Object;" } : Jvm.MethodName)) ∈ lw_all := lw_g (lw_at lw_m4 208 rfl) rfl
theorem q1002 : (Jvm.Cond.publicMethod ({ cls := "java/util/ArrayList", name := "toArray", desc := "()[Ljava/lang/Object;" } : Jvm.MethodName)) ∈ lw_tbl := lw_at lw_m4 209 rfl
theorem q1003 : (Jvm.Cond.code ({ cls := "java/util/ArrayList", name := "toArray", desc := "()[Ljava/lang/Object;" } : Jvm.MethodName) prog_54_method_16_code (1 : Nat) (Option.some (Jvm.ClassFile.FieldType.array (Jvm.ClassFile.FieldType.object "java/lang/Object")))) ∈ lw_all := lw_g (lw_at lw_m4 210 rfl) rfl
theorem q1011 : (Jvm.Cond.instanceMethod ({ cls := "java/util/ArrayList", name := "size", desc := "()I" } : Jvm.MethodName)) ∈ lw_all := lw_g (lw_at lw_m4 218 rfl) rfl
theorem q1012 : (Jvm.Cond.code ({ cls := "java/util/ArrayList", name := "size", desc := "()I" } : Jvm.MethodName) prog_54_method_8_code (1 : Nat) (Option.some Jvm.ClassFile.FieldType.int)) ∈ lw_all := lw_g (lw_at lw_m4 219 rfl) rfl
theorem q1094 : (Jvm.Cond.methodLink "java/util/ArrayList" (112 : Nat) ({ cls := "java/lang/System", name := "arraycopy", desc := "(Ljava/lang/Object;ILjava/lang/Object;II)V" } : Jvm.MethodName)) ∈ lw_all := lw_g (lw_at lw_m5 61 rfl) rfl
theorem q1760 : (Jvm.Cond.instanceMethod ({ cls := "java/util/ArrayList", name := "remove", desc := "(I)Ljava/lang/Object;" } : Jvm.MethodName)) ∈ lw_all := lw_g (lw_at lw_m8 7 rfl) rfl
theorem q1761 : (Jvm.Cond.selects "java/util/ArrayList" ({ cls := "java/util/ArrayList", name := "remove", desc := "(I)Ljava/lang/Object;" } : Jvm.MethodName) ({ cls := "java/util/ArrayList", name := "remove", desc := "(I)Ljava/lang/Object;" } : Jvm.MethodName)) ∈ lw_all := lw_g (lw_at lw_m8 8 rfl) rfl
theorem q1762 : (Jvm.Cond.code ({ cls := "java/util/ArrayList", name := "remove", desc := "(I)Ljava/lang/Object;" } : Jvm.MethodName) prog_54_method_29_code (4 : Nat) (Option.some (Jvm.ClassFile.FieldType.object "java/lang/Object"))) ∈ lw_all := lw_g (lw_at lw_m8 9 rfl) rfl
theorem q1763 : (Jvm.Cond.methodLink "java/util/ArrayList" (144 : Nat) ({ cls := "java/util/ArrayList", name := "fastRemove", desc := "([Ljava/lang/Object;I)V" } : Jvm.MethodName)) ∈ lw_all := lw_g (lw_at lw_m8 10 rfl) rfl
theorem q1765 : (Jvm.Cond.instanceMethod ({ cls := "java/util/ArrayList", name := "fastRemove", desc := "([Ljava/lang/Object;I)V" } : Jvm.MethodName)) ∈ lw_all := lw_g (lw_at lw_m8 12 rfl) rfl
theorem q1766 : (Jvm.Cond.code ({ cls := "java/util/ArrayList", name := "fastRemove", desc := "([Ljava/lang/Object;I)V" } : Jvm.MethodName) prog_54_method_39_code (4 : Nat) (Option.none : Option Jvm.ClassFile.FieldType)) ∈ lw_all := lw_g (lw_at lw_m8 13 rfl) rfl
theorem q1936 : (Jvm.Cond.instanceMethod ({ cls := "java/util/ArrayList", name := "indexOf", desc := "(Ljava/lang/Object;)I" } : Jvm.MethodName)) ∈ lw_all := lw_g (lw_at lw_m8 183 rfl) rfl
theorem q1937 : (Jvm.Cond.selects "java/util/ArrayList" ({ cls := "java/util/ArrayList", name := "indexOf", desc := "(Ljava/lang/Object;)I" } : Jvm.MethodName) ({ cls := "java/util/ArrayList", name := "indexOf", desc := "(Ljava/lang/Object;)I" } : Jvm.MethodName)) ∈ lw_all := lw_g (lw_at lw_m8 184 rfl) rfl
theorem q1938 : (Jvm.Cond.code ({ cls := "java/util/ArrayList", name := "indexOf", desc := "(Ljava/lang/Object;)I" } : Jvm.MethodName) prog_54_method_11_code (2 : Nat) (Option.some Jvm.ClassFile.FieldType.int)) ∈ lw_all := lw_g (lw_at lw_m8 185 rfl) rfl
theorem q1939 : (Jvm.Cond.methodLink "java/util/ArrayList" (89 : Nat) ({ cls := "java/util/ArrayList", name := "indexOfRange", desc := "(Ljava/lang/Object;II)I" } : Jvm.MethodName)) ∈ lw_all := lw_g (lw_at lw_m8 186 rfl) rfl
theorem q1940 : (Jvm.Cond.instanceMethod ({ cls := "java/util/ArrayList", name := "indexOfRange", desc := "(Ljava/lang/Object;II)I" } : Jvm.MethodName)) ∈ lw_all := lw_g (lw_at lw_m8 187 rfl) rfl
theorem q1941 : (Jvm.Cond.selects "java/util/ArrayList" ({ cls := "java/util/ArrayList", name := "indexOfRange", desc := "(Ljava/lang/Object;II)I" } : Jvm.MethodName) ({ cls := "java/util/ArrayList", name := "indexOfRange", desc := "(Ljava/lang/Object;II)I" } : Jvm.MethodName)) ∈ lw_all := lw_g (lw_at lw_m8 188 rfl) rfl
theorem q1942 : (Jvm.Cond.code ({ cls := "java/util/ArrayList", name := "indexOfRange", desc := "(Ljava/lang/Object;II)I" } : Jvm.MethodName) prog_54_method_12_code (6 : Nat) (Option.some Jvm.ClassFile.FieldType.int)) ∈ lw_all := lw_g (lw_at lw_m8 189 rfl) rfl
theorem q1943 : (Jvm.Cond.methodLink "java/util/ArrayList" (93 : Nat) ({ cls := "java/lang/Object", name := "equals", desc := "(Ljava/lang/Object;)Z" } : Jvm.MethodName)) ∈ lw_all := lw_g (lw_at lw_m8 190 rfl) rfl
theorem q2377 : (Jvm.Cond.instanceMethod ({ cls := "java/util/ArrayList", name := "set", desc := "(ILjava/lang/Object;)Ljava/lang/Object;" } : Jvm.MethodName)) ∈ lw_all := lw_g (lw_at lw_m10 144 rfl) rfl
theorem q2378 : (Jvm.Cond.selects "java/util/ArrayList" ({ cls := "java/util/ArrayList", name := "set", desc := "(ILjava/lang/Object;)Ljava/lang/Object;" } : Jvm.MethodName) ({ cls := "java/util/ArrayList", name := "set", desc := "(ILjava/lang/Object;)Ljava/lang/Object;" } : Jvm.MethodName)) ∈ lw_all := lw_g (lw_at lw_m10 145 rfl) rfl
theorem q2379 : (Jvm.Cond.code ({ cls := "java/util/ArrayList", name := "set", desc := "(ILjava/lang/Object;)Ljava/lang/Object;" } : Jvm.MethodName) prog_54_method_23_code (4 : Nat) (Option.some (Jvm.ClassFile.FieldType.object "java/lang/Object"))) ∈ lw_all := lw_g (lw_at lw_m10 146 rfl) rfl
theorem q3016 : (Jvm.Cond.instanceMethod ({ cls := "java/util/ArrayList", name := "clear", desc := "()V" } : Jvm.MethodName)) ∈ lw_all := lw_g (lw_at lw_m13 63 rfl) rfl
theorem q3017 : (Jvm.Cond.selects "java/util/ArrayList" ({ cls := "java/util/ArrayList", name := "clear", desc := "()V" } : Jvm.MethodName) ({ cls := "java/util/ArrayList", name := "clear", desc := "()V" } : Jvm.MethodName)) ∈ lw_all := lw_g (lw_at lw_m13 64 rfl) rfl
theorem q3018 : (Jvm.Cond.code ({ cls := "java/util/ArrayList", name := "clear", desc := "()V" } : Jvm.MethodName) prog_54_method_40_code (4 : Nat) (Option.none : Option Jvm.ClassFile.FieldType)) ∈ lw_all := lw_g (lw_at lw_m13 65 rfl) rfl
theorem q3486 : (Jvm.Cond.selects "java/util/ArrayList" ({ cls := "java/util/ArrayList", name := "size", desc := "()I" } : Jvm.MethodName) ({ cls := "java/util/ArrayList", name := "size", desc := "()I" } : Jvm.MethodName)) ∈ lw_all := lw_g (lw_at lw_m15 53 rfl) rfl
theorem q3487 : (Jvm.Cond.selects "java/util/ArrayList" ({ cls := "java/util/ArrayList", name := "get", desc := "(I)Ljava/lang/Object;" } : Jvm.MethodName) ({ cls := "java/util/ArrayList", name := "get", desc := "(I)Ljava/lang/Object;" } : Jvm.MethodName)) ∈ lw_all := lw_g (lw_at lw_m15 54 rfl) rfl
theorem q3504 : (Jvm.Cond.castable "java/util/ArrayList" "java/lang/Object") ∈ lw_tbl := lw_at lw_m15 71 rfl
/-! JumpHall$Shelf -/
def RX3 : String := "JumpHall$Shelf"
abbrev cX3_init : ByteArray := prog_13_method_1_code
def yX3_init : MethodName := ⟨RX3, "<init>", "()V"⟩
def dkwX3_init_0 : List UInt8 := [42, 183, 0, 3, 42, 187, 0, 9, 89, 183, 0, 11, 181, 0, 12, 177]
abbrev dktX3_init_0 : List UInt8 := dkwX3_init_0 ++ []
theorem dksX3_init_0 : cX3_init.data.toList.drop 0 = dktX3_init_0 := by decide +kernel
theorem dX3_init_0 : decode cX3_init 0 = .ok (.aload_n 0, 1) := dk_42 (dk_at dksX3_init_0 0 rfl rfl)
theorem dX3_init_1 : decode cX3_init 1 = .ok (.invokespecial 3, 3) := dk_183 0 3 (dk_at dksX3_init_0 1 rfl rfl)
theorem dX3_init_4 : decode cX3_init 4 = .ok (.aload_n 0, 1) := dk_42 (dk_at dksX3_init_0 4 rfl rfl)
theorem dX3_init_5 : decode cX3_init 5 = .ok (.new 9, 3) := dk_187 0 9 (dk_at dksX3_init_0 5 rfl rfl)
theorem dX3_init_8 : decode cX3_init 8 = .ok (.dup, 1) := dk_89 (dk_at dksX3_init_0 8 rfl rfl)
theorem dX3_init_9 : decode cX3_init 9 = .ok (.invokespecial 11, 3) := dk_183 0 11 (dk_at dksX3_init_0 9 rfl rfl)
theorem dX3_init_12 : decode cX3_init 12 = .ok (.putfield 12, 3) := dk_181 0 12 (dk_at dksX3_init_0 12 rfl rfl)
theorem dX3_init_15 : decode cX3_init 15 = .ok (.return_, 1) := dk_177 (dk_at dksX3_init_0 15 rfl rfl)
abbrev cX3_copy : ByteArray := prog_13_method_2_code
def yX3_copy : MethodName := ⟨RX3, "copy", "()LJumpHall$Shelf;"⟩
def dkwX3_copy_0 : List UInt8 := [187, 0, 13, 89, 183, 0, 18, 76, 43, 180, 0, 12, 42, 180, 0, 12, 182, 0, 19, 43, 176]
abbrev dktX3_copy_0 : List UInt8 := dkwX3_copy_0 ++ []
theorem dksX3_copy_0 : cX3_copy.data.toList.drop 0 = dktX3_copy_0 := by decide +kernel
theorem dX3_copy_0 : decode cX3_copy 0 = .ok (.new 13, 3) := dk_187 0 13 (dk_at dksX3_copy_0 0 rfl rfl)
theorem dX3_copy_3 : decode cX3_copy 3 = .ok (.dup, 1) := dk_89 (dk_at dksX3_copy_0 3 rfl rfl)
theorem dX3_copy_4 : decode cX3_copy 4 = .ok (.invokespecial 18, 3) := dk_183 0 18 (dk_at dksX3_copy_0 4 rfl rfl)
theorem dX3_copy_7 : decode cX3_copy 7 = .ok (.astore_n 1, 1) := dk_76 (dk_at dksX3_copy_0 7 rfl rfl)
theorem dX3_copy_8 : decode cX3_copy 8 = .ok (.aload_n 1, 1) := dk_43 (dk_at dksX3_copy_0 8 rfl rfl)
theorem dX3_copy_9 : decode cX3_copy 9 = .ok (.getfield 12, 3) := dk_180 0 12 (dk_at dksX3_copy_0 9 rfl rfl)
theorem dX3_copy_12 : decode cX3_copy 12 = .ok (.aload_n 0, 1) := dk_42 (dk_at dksX3_copy_0 12 rfl rfl)
theorem dX3_copy_13 : decode cX3_copy 13 = .ok (.getfield 12, 3) := dk_180 0 12 (dk_at dksX3_copy_0 13 rfl rfl)
theorem dX3_copy_16 : decode cX3_copy 16 = .ok (.invokevirtual 19, 3) := dk_182 0 19 (dk_at dksX3_copy_0 16 rfl rfl)
theorem dX3_copy_19 : decode cX3_copy 19 = .ok (.aload_n 1, 1) := dk_43 (dk_at dksX3_copy_0 19 rfl rfl)
theorem dX3_copy_20 : decode cX3_copy 20 = .ok (.areturn, 1) := dk_176 (dk_at dksX3_copy_0 20 rfl rfl)
abbrev cX3_puts : ByteArray := prog_13_method_4_code
def yX3_puts : MethodName := ⟨RX3, "puts", "(LJumpHall$Socks;I)I"⟩
def dkwX3_puts_1 : List UInt8 := [182, 0, 51, 192, 0, 31, 58, 4, 29, 172]
abbrev dktX3_puts_1 : List UInt8 := dkwX3_puts_1 ++ []
def dkwX3_puts_0 : List UInt8 := [16, 99, 42, 43, 182, 0, 37, 28, 96, 184, 0, 41, 62, 42, 180, 0, 12, 43, 29, 184, 0, 47]
abbrev dktX3_puts_0 : List UInt8 := dkwX3_puts_0 ++ dktX3_puts_1
theorem dksX3_puts_0 : cX3_puts.data.toList.drop 0 = dktX3_puts_0 := by decide +kernel
theorem dksX3_puts_1 : cX3_puts.data.toList.drop 22 = dktX3_puts_1 := dk_seg dksX3_puts_0 22 rfl rfl
theorem dX3_puts_0 : decode cX3_puts 0 = .ok (.bipush 99, 2) := dk_16 99 (dk_at dksX3_puts_0 0 rfl rfl)
theorem dX3_puts_2 : decode cX3_puts 2 = .ok (.aload_n 0, 1) := dk_42 (dk_at dksX3_puts_0 2 rfl rfl)
theorem dX3_puts_3 : decode cX3_puts 3 = .ok (.aload_n 1, 1) := dk_43 (dk_at dksX3_puts_0 3 rfl rfl)
theorem dX3_puts_4 : decode cX3_puts 4 = .ok (.invokevirtual 37, 3) := dk_182 0 37 (dk_at dksX3_puts_0 4 rfl rfl)
theorem dX3_puts_7 : decode cX3_puts 7 = .ok (.iload_n 2, 1) := dk_28 (dk_at dksX3_puts_0 7 rfl rfl)
theorem dX3_puts_8 : decode cX3_puts 8 = .ok (.iadd, 1) := dk_96 (dk_at dksX3_puts_0 8 rfl rfl)
theorem dX3_puts_9 : decode cX3_puts 9 = .ok (.invokestatic 41, 3) := dk_184 0 41 (dk_at dksX3_puts_0 9 rfl rfl)
theorem dX3_puts_12 : decode cX3_puts 12 = .ok (.istore_n 3, 1) := dk_62 (dk_at dksX3_puts_0 12 rfl rfl)
theorem dX3_puts_13 : decode cX3_puts 13 = .ok (.aload_n 0, 1) := dk_42 (dk_at dksX3_puts_0 13 rfl rfl)
theorem dX3_puts_14 : decode cX3_puts 14 = .ok (.getfield 12, 3) := dk_180 0 12 (dk_at dksX3_puts_0 14 rfl rfl)
theorem dX3_puts_17 : decode cX3_puts 17 = .ok (.aload_n 1, 1) := dk_43 (dk_at dksX3_puts_0 17 rfl rfl)
theorem dX3_puts_18 : decode cX3_puts 18 = .ok (.iload_n 3, 1) := dk_29 (dk_at dksX3_puts_0 18 rfl rfl)
theorem dX3_puts_19 : decode cX3_puts 19 = .ok (.invokestatic 47, 3) := dk_184 0 47 (dk_at dksX3_puts_0 19 rfl rfl)
theorem dX3_puts_22 : decode cX3_puts 22 = .ok (.invokevirtual 51, 3) := dk_182 0 51 (dk_at dksX3_puts_1 0 rfl rfl)
theorem dX3_puts_25 : decode cX3_puts 25 = .ok (.checkcast 31, 3) := dk_192 0 31 (dk_at dksX3_puts_1 3 rfl rfl)
theorem dX3_puts_28 : decode cX3_puts 28 = .ok (.astore 4, 2) := dk_58 4 (dk_at dksX3_puts_1 6 rfl rfl)
theorem dX3_puts_30 : decode cX3_puts 30 = .ok (.iload_n 3, 1) := dk_29 (dk_at dksX3_puts_1 8 rfl rfl)
theorem dX3_puts_31 : decode cX3_puts 31 = .ok (.ireturn, 1) := dk_172 (dk_at dksX3_puts_1 9 rfl rfl)
abbrev cX3_of : ByteArray := prog_13_method_3_code
def yX3_of : MethodName := ⟨RX3, "of", "(LJumpHall$Socks;)I"⟩
def dkwX3_of_1 : List UInt8 := [182, 0, 33, 167, 0, 4, 3, 172]
abbrev dktX3_of_1 : List UInt8 := dkwX3_of_1 ++ []
def dkwX3_of_0 : List UInt8 := [42, 180, 0, 12, 43, 182, 0, 23, 153, 0, 20, 42, 180, 0, 12, 43, 182, 0, 27, 192, 0, 31]
abbrev dktX3_of_0 : List UInt8 := dkwX3_of_0 ++ dktX3_of_1
theorem dksX3_of_0 : cX3_of.data.toList.drop 0 = dktX3_of_0 := by decide +kernel
theorem dksX3_of_1 : cX3_of.data.toList.drop 22 = dktX3_of_1 := dk_seg dksX3_of_0 22 rfl rfl
theorem dX3_of_0 : decode cX3_of 0 = .ok (.aload_n 0, 1) := dk_42 (dk_at dksX3_of_0 0 rfl rfl)
theorem dX3_of_1 : decode cX3_of 1 = .ok (.getfield 12, 3) := dk_180 0 12 (dk_at dksX3_of_0 1 rfl rfl)
theorem dX3_of_4 : decode cX3_of 4 = .ok (.aload_n 1, 1) := dk_43 (dk_at dksX3_of_0 4 rfl rfl)
theorem dX3_of_5 : decode cX3_of 5 = .ok (.invokevirtual 23, 3) := dk_182 0 23 (dk_at dksX3_of_0 5 rfl rfl)
theorem dX3_of_8 : decode cX3_of 8 = .ok (.ifCond .eq 20, 3) := dk_153 0 20 (dk_at dksX3_of_0 8 rfl rfl)
theorem dX3_of_11 : decode cX3_of 11 = .ok (.aload_n 0, 1) := dk_42 (dk_at dksX3_of_0 11 rfl rfl)
theorem dX3_of_12 : decode cX3_of 12 = .ok (.getfield 12, 3) := dk_180 0 12 (dk_at dksX3_of_0 12 rfl rfl)
theorem dX3_of_15 : decode cX3_of 15 = .ok (.aload_n 1, 1) := dk_43 (dk_at dksX3_of_0 15 rfl rfl)
theorem dX3_of_16 : decode cX3_of 16 = .ok (.invokevirtual 27, 3) := dk_182 0 27 (dk_at dksX3_of_0 16 rfl rfl)
theorem dX3_of_19 : decode cX3_of 19 = .ok (.checkcast 31, 3) := dk_192 0 31 (dk_at dksX3_of_0 19 rfl rfl)
theorem dX3_of_22 : decode cX3_of 22 = .ok (.invokevirtual 33, 3) := dk_182 0 33 (dk_at dksX3_of_1 0 rfl rfl)
theorem dX3_of_25 : decode cX3_of 25 = .ok (.goto 4, 3) := dk_167 0 4 (dk_at dksX3_of_1 3 rfl rfl)
theorem dX3_of_28 : decode cX3_of 28 = .ok (.iconst 0, 1) := dk_3 (dk_at dksX3_of_1 6 rfl rfl)
theorem dX3_of_29 : decode cX3_of 29 = .ok (.ireturn, 1) := dk_172 (dk_at dksX3_of_1 7 rfl rfl)
abbrev cX3_ofSize : ByteArray := prog_13_method_5_code
def yX3_ofSize : MethodName := ⟨RX3, "ofSize", "(I)I"⟩
def dkwX3_ofSize_3 : List UInt8 := [167, 0, 4, 3, 96, 61, 167, 255, 194, 28, 172]
abbrev dktX3_ofSize_3 : List UInt8 := dkwX3_ofSize_3 ++ []
def dkwX3_ofSize_2 : List UInt8 := [192, 0, 80, 180, 0, 82, 27, 160, 0, 19, 25, 4, 185, 0, 86, 1, 0, 192, 0, 31, 182, 0, 33]
abbrev dktX3_ofSize_2 : List UInt8 := dkwX3_ofSize_2 ++ dktX3_ofSize_3
def dkwX3_ofSize_1 : List UInt8 := [45, 185, 0, 71, 1, 0, 192, 0, 75, 58, 4, 28, 27, 2, 159, 0, 20, 25, 4, 185, 0, 77, 1, 0]
abbrev dktX3_ofSize_1 : List UInt8 := dkwX3_ofSize_1 ++ dktX3_ofSize_2
def dkwX3_ofSize_0 : List UInt8 := [3, 61, 42, 180, 0, 12, 182, 0, 55, 185, 0, 59, 1, 0, 78, 45, 185, 0, 65, 1, 0, 153, 0, 59]
abbrev dktX3_ofSize_0 : List UInt8 := dkwX3_ofSize_0 ++ dktX3_ofSize_1
theorem dksX3_ofSize_0 : cX3_ofSize.data.toList.drop 0 = dktX3_ofSize_0 := by decide +kernel
theorem dksX3_ofSize_1 : cX3_ofSize.data.toList.drop 24 = dktX3_ofSize_1 := dk_seg dksX3_ofSize_0 24 rfl rfl
theorem dksX3_ofSize_2 : cX3_ofSize.data.toList.drop 48 = dktX3_ofSize_2 := dk_seg dksX3_ofSize_1 24 rfl rfl
theorem dksX3_ofSize_3 : cX3_ofSize.data.toList.drop 71 = dktX3_ofSize_3 := dk_seg dksX3_ofSize_2 23 rfl rfl
theorem dX3_ofSize_0 : decode cX3_ofSize 0 = .ok (.iconst 0, 1) := dk_3 (dk_at dksX3_ofSize_0 0 rfl rfl)
theorem dX3_ofSize_1 : decode cX3_ofSize 1 = .ok (.istore_n 2, 1) := dk_61 (dk_at dksX3_ofSize_0 1 rfl rfl)
theorem dX3_ofSize_2 : decode cX3_ofSize 2 = .ok (.aload_n 0, 1) := dk_42 (dk_at dksX3_ofSize_0 2 rfl rfl)
theorem dX3_ofSize_3 : decode cX3_ofSize 3 = .ok (.getfield 12, 3) := dk_180 0 12 (dk_at dksX3_ofSize_0 3 rfl rfl)
theorem dX3_ofSize_6 : decode cX3_ofSize 6 = .ok (.invokevirtual 55, 3) := dk_182 0 55 (dk_at dksX3_ofSize_0 6 rfl rfl)
theorem dX3_ofSize_9 : decode cX3_ofSize 9 = .ok (.invokeinterface 59 1, 5) := by decide +kernel
theorem dX3_ofSize_14 : decode cX3_ofSize 14 = .ok (.astore_n 3, 1) := dk_78 (dk_at dksX3_ofSize_0 14 rfl rfl)
theorem dX3_ofSize_15 : decode cX3_ofSize 15 = .ok (.aload_n 3, 1) := dk_45 (dk_at dksX3_ofSize_0 15 rfl rfl)
theorem dX3_ofSize_16 : decode cX3_ofSize 16 = .ok (.invokeinterface 65 1, 5) := by decide +kernel
theorem dX3_ofSize_21 : decode cX3_ofSize 21 = .ok (.ifCond .eq 59, 3) := dk_153 0 59 (dk_at dksX3_ofSize_0 21 rfl rfl)
theorem dX3_ofSize_24 : decode cX3_ofSize 24 = .ok (.aload_n 3, 1) := dk_45 (dk_at dksX3_ofSize_1 0 rfl rfl)
theorem dX3_ofSize_25 : decode cX3_ofSize 25 = .ok (.invokeinterface 71 1, 5) := by decide +kernel
theorem dX3_ofSize_30 : decode cX3_ofSize 30 = .ok (.checkcast 75, 3) := dk_192 0 75 (dk_at dksX3_ofSize_1 6 rfl rfl)
theorem dX3_ofSize_33 : decode cX3_ofSize 33 = .ok (.astore 4, 2) := dk_58 4 (dk_at dksX3_ofSize_1 9 rfl rfl)
theorem dX3_ofSize_35 : decode cX3_ofSize 35 = .ok (.iload_n 2, 1) := dk_28 (dk_at dksX3_ofSize_1 11 rfl rfl)
theorem dX3_ofSize_36 : decode cX3_ofSize 36 = .ok (.iload_n 1, 1) := dk_27 (dk_at dksX3_ofSize_1 12 rfl rfl)
theorem dX3_ofSize_37 : decode cX3_ofSize 37 = .ok (.iconst (-1), 1) := dk_2 (dk_at dksX3_ofSize_1 13 rfl rfl)
theorem dX3_ofSize_38 : decode cX3_ofSize 38 = .ok (.if_icmp .eq 20, 3) := dk_159 0 20 (dk_at dksX3_ofSize_1 14 rfl rfl)
theorem dX3_ofSize_41 : decode cX3_ofSize 41 = .ok (.aload 4, 2) := dk_25 4 (dk_at dksX3_ofSize_1 17 rfl rfl)
theorem dX3_ofSize_43 : decode cX3_ofSize 43 = .ok (.invokeinterface 77 1, 5) := by decide +kernel
theorem dX3_ofSize_48 : decode cX3_ofSize 48 = .ok (.checkcast 80, 3) := dk_192 0 80 (dk_at dksX3_ofSize_2 0 rfl rfl)
theorem dX3_ofSize_51 : decode cX3_ofSize 51 = .ok (.getfield 82, 3) := dk_180 0 82 (dk_at dksX3_ofSize_2 3 rfl rfl)
theorem dX3_ofSize_54 : decode cX3_ofSize 54 = .ok (.iload_n 1, 1) := dk_27 (dk_at dksX3_ofSize_2 6 rfl rfl)
theorem dX3_ofSize_55 : decode cX3_ofSize 55 = .ok (.if_icmp .ne 19, 3) := dk_160 0 19 (dk_at dksX3_ofSize_2 7 rfl rfl)
theorem dX3_ofSize_58 : decode cX3_ofSize 58 = .ok (.aload 4, 2) := dk_25 4 (dk_at dksX3_ofSize_2 10 rfl rfl)
theorem dX3_ofSize_60 : decode cX3_ofSize 60 = .ok (.invokeinterface 86 1, 5) := by decide +kernel
theorem dX3_ofSize_65 : decode cX3_ofSize 65 = .ok (.checkcast 31, 3) := dk_192 0 31 (dk_at dksX3_ofSize_2 17 rfl rfl)
theorem dX3_ofSize_68 : decode cX3_ofSize 68 = .ok (.invokevirtual 33, 3) := dk_182 0 33 (dk_at dksX3_ofSize_2 20 rfl rfl)
theorem dX3_ofSize_71 : decode cX3_ofSize 71 = .ok (.goto 4, 3) := dk_167 0 4 (dk_at dksX3_ofSize_3 0 rfl rfl)
theorem dX3_ofSize_74 : decode cX3_ofSize 74 = .ok (.iconst 0, 1) := dk_3 (dk_at dksX3_ofSize_3 3 rfl rfl)
theorem dX3_ofSize_75 : decode cX3_ofSize 75 = .ok (.iadd, 1) := dk_96 (dk_at dksX3_ofSize_3 4 rfl rfl)
theorem dX3_ofSize_76 : decode cX3_ofSize 76 = .ok (.istore_n 2, 1) := dk_61 (dk_at dksX3_ofSize_3 5 rfl rfl)
theorem dX3_ofSize_77 : decode cX3_ofSize 77 = .ok (.goto (-62), 3) := dk_167 255 194 (dk_at dksX3_ofSize_3 6 rfl rfl)
theorem dX3_ofSize_80 : decode cX3_ofSize 80 = .ok (.iload_n 2, 1) := dk_28 (dk_at dksX3_ofSize_3 9 rfl rfl)
theorem dX3_ofSize_81 : decode cX3_ofSize 81 = .ok (.ireturn, 1) := dk_172 (dk_at dksX3_ofSize_3 10 rfl rfl)
theorem q79 : (Jvm.Cond.initialized "JumpHall$Shelf") ∈ lw_all := lw_g (lw_at lw_m1 6 rfl) rfl
theorem q182 : (Jvm.Cond.instantiable "JumpHall$Shelf" (1 : Nat)) ∈ lw_all := lw_g (lw_at lw_m1 109 rfl) rfl
theorem q184 : (Jvm.Cond.instanceMethod ({ cls := "JumpHall$Shelf", name := "<init>", desc := "()V" } : Jvm.MethodName)) ∈ lw_all := lw_g (lw_at lw_m1 111 rfl) rfl
theorem q185 : (Jvm.Cond.code ({ cls := "JumpHall$Shelf", name := "<init>", desc := "()V" } : Jvm.MethodName) prog_13_method_1_code (1 : Nat) (Option.none : Option Jvm.ClassFile.FieldType)) ∈ lw_all := lw_g (lw_at lw_m1 112 rfl) rfl
theorem q186 : (Jvm.Cond.methodLink "JumpHall$Shelf" (3 : Nat) ({ cls := "java/lang/Object", name := "<init>", desc := "()V" } : Jvm.MethodName)) ∈ lw_all := lw_g (lw_at lw_m1 113 rfl) rfl
theorem q187 : (Jvm.Cond.classLink "JumpHall$Shelf" (9 : Nat) "java/util/HashMap") ∈ lw_all := lw_g (lw_at lw_m1 114 rfl) rfl
theorem q189 : (Jvm.Cond.methodLink "JumpHall$Shelf" (11 : Nat) ({ cls := "java/util/HashMap", name := "<init>", desc := "()V" } : Jvm.MethodName)) ∈ lw_all := lw_g (lw_at lw_m1 116 rfl) rfl
theorem q224 : (Jvm.Cond.fieldLink "JumpHall$Shelf" (12 : Nat) "JumpHall$Shelf" "pairs" "Ljava/util/HashMap;") ∈ lw_all := lw_g (lw_at lw_m1 151 rfl) rfl
theorem q1096 : (Jvm.Cond.instanceMethod ({ cls := "JumpHall$Shelf", name := "copy", desc := "()LJumpHall$Shelf;" } : Jvm.MethodName)) ∈ lw_all := lw_g (lw_at lw_m5 63 rfl) rfl
theorem q1097 : (Jvm.Cond.selects "JumpHall$Shelf" ({ cls := "JumpHall$Shelf", name := "copy", desc := "()LJumpHall$Shelf;" } : Jvm.MethodName) ({ cls := "JumpHall$Shelf", name := "copy", desc := "()LJumpHall$Shelf;" } : Jvm.MethodName)) ∈ lw_all := lw_g (lw_at lw_m5 64 rfl) rfl
theorem q1098 : (Jvm.Cond.code ({ cls := "JumpHall$Shelf", name := "copy", desc := "()LJumpHall$Shelf;" } : Jvm.MethodName) prog_13_method_2_code (2 : Nat) (Option.some (Jvm.ClassFile.FieldType.object "JumpHall$Shelf"))) ∈ lw_all := lw_g (lw_at lw_m5 65 rfl) rfl
theorem q1099 : (Jvm.Cond.classLink "JumpHall$Shelf" (13 : Nat) "JumpHall$Shelf") ∈ lw_all := lw_g (lw_at lw_m5 66 rfl) rfl
theorem q1100 : (Jvm.Cond.methodLink "JumpHall$Shelf" (18 : Nat) ({ cls := "JumpHall$Shelf", name := "<init>", desc := "()V" } : Jvm.MethodName)) ∈ lw_all := lw_g (lw_at lw_m5 67 rfl) rfl
theorem q1101 : (Jvm.Cond.methodLink "JumpHall$Shelf" (19 : Nat) ({ cls := "java/util/HashMap", name := "putAll", desc := "(Ljava/util/Map;)V" } : Jvm.MethodName)) ∈ lw_all := lw_g (lw_at lw_m5 68 rfl) rfl
theorem q2235 : (Jvm.Cond.fieldLinkNest "JumpHall$Shelf" (82 : Nat) "JumpHall$Socks" "size" "I" "JumpHall") ∈ lw_tbl := lw_at lw_m10 2 rfl
theorem q2243 : (Jvm.Cond.instanceMethod ({ cls := "JumpHall$Shelf", name := "puts", desc := "(LJumpHall$Socks;I)I" } : Jvm.MethodName)) ∈ lw_all := lw_g (lw_at lw_m10 10 rfl) rfl
theorem q2244 : (Jvm.Cond.selects "JumpHall$Shelf" ({ cls := "JumpHall$Shelf", name := "puts", desc := "(LJumpHall$Socks;I)I" } : Jvm.MethodName) ({ cls := "JumpHall$Shelf", name := "puts", desc := "(LJumpHall$Socks;I)I" } : Jvm.MethodName)) ∈ lw_all := lw_g (lw_at lw_m10 11 rfl) rfl
theorem q2245 : (Jvm.Cond.code ({ cls := "JumpHall$Shelf", name := "puts", desc := "(LJumpHall$Socks;I)I" } : Jvm.MethodName) prog_13_method_4_code (5 : Nat) (Option.some Jvm.ClassFile.FieldType.int)) ∈ lw_all := lw_g (lw_at lw_m10 12 rfl) rfl
theorem q2246 : (Jvm.Cond.methodLink "JumpHall$Shelf" (37 : Nat) ({ cls := "JumpHall$Shelf", name := "of", desc := "(LJumpHall$Socks;)I" } : Jvm.MethodName)) ∈ lw_all := lw_g (lw_at lw_m10 13 rfl) rfl
theorem q2247 : (Jvm.Cond.instanceMethod ({ cls := "JumpHall$Shelf", name := "of", desc := "(LJumpHall$Socks;)I" } : Jvm.MethodName)) ∈ lw_all := lw_g (lw_at lw_m10 14 rfl) rfl
theorem q2248 : (Jvm.Cond.selects "JumpHall$Shelf" ({ cls := "JumpHall$Shelf", name := "of", desc := "(LJumpHall$Socks;)I" } : Jvm.MethodName) ({ cls := "JumpHall$Shelf", name := "of", desc := "(LJumpHall$Socks;)I" } : Jvm.MethodName)) ∈ lw_all := lw_g (lw_at lw_m10 15 rfl) rfl
theorem q2249 : (Jvm.Cond.code ({ cls := "JumpHall$Shelf", name := "of", desc := "(LJumpHall$Socks;)I" } : Jvm.MethodName) prog_13_method_3_code (2 : Nat) (Option.some Jvm.ClassFile.FieldType.int)) ∈ lw_all := lw_g (lw_at lw_m10 16 rfl) rfl
theorem q2250 : (Jvm.Cond.methodLink "JumpHall$Shelf" (23 : Nat) ({ cls := "java/util/HashMap", name := "containsKey", desc := "(Ljava/lang/Object;)Z" } : Jvm.MethodName)) ∈ lw_all := lw_g (lw_at lw_m10 17 rfl) rfl
theorem q2262 : (Jvm.Cond.methodLink "JumpHall$Shelf" (27 : Nat) ({ cls := "java/util/HashMap", name := "get", desc := "(Ljava/lang/Object;)Ljava/lang/Object;" } : Jvm.MethodName)) ∈ lw_all := lw_g (lw_at lw_m10 29 rfl) rfl
theorem q2266 : (Jvm.Cond.classLink "JumpHall$Shelf" (31 : Nat) "java/lang/Integer") ∈ lw_all := lw_g (lw_at lw_m10 33 rfl) rfl
theorem q2267 : (Jvm.Cond.methodLink "JumpHall$Shelf" (33 : Nat) ({ cls := "java/lang/Integer", name := "intValue", desc := "()I" } : Jvm.MethodName)) ∈ lw_all := lw_g (lw_at lw_m10 34 rfl) rfl
theorem q2268 : (Jvm.Cond.methodLink "JumpHall$Shelf" (41 : Nat) ({ cls := "java/lang/Math", name := "min", desc := "(II)I" } : Jvm.MethodName)) ∈ lw_all := lw_g (lw_at lw_m10 35 rfl) rfl
theorem q2269 : (Jvm.Cond.methodLink "JumpHall$Shelf" (47 : Nat) ({ cls := "java/lang/Integer", name := "valueOf", desc := "(I)Ljava/lang/Integer;" } : Jvm.MethodName)) ∈ lw_all := lw_g (lw_at lw_m10 36 rfl) rfl
theorem q2270 : (Jvm.Cond.methodLink "JumpHall$Shelf" (51 : Nat) ({ cls := "java/util/HashMap", name := "put", desc := "(Ljava/lang/Object;Ljava/lang/Object;)Ljava/lang/Object;" } : Jvm.MethodName)) ∈ lw_all := lw_g (lw_at lw_m10 37 rfl) rfl
theorem q2291 : (Jvm.Cond.instanceMethod ({ cls := "JumpHall$Shelf", name := "ofSize", desc := "(I)I" } : Jvm.MethodName)) ∈ lw_all := lw_g (lw_at lw_m10 58 rfl) rfl
theorem q2292 : (Jvm.Cond.selects "JumpHall$Shelf" ({ cls := "JumpHall$Shelf", name := "ofSize", desc := "(I)I" } : Jvm.MethodName) ({ cls := "JumpHall$Shelf", name := "ofSize", desc := "(I)I" } : Jvm.MethodName)) ∈ lw_all := lw_g (lw_at lw_m10 59 rfl) rfl
theorem q2293 : (Jvm.Cond.code ({ cls := "JumpHall$Shelf", name := "ofSize", desc := "(I)I" } : Jvm.MethodName) prog_13_method_5_code (5 : Nat) (Option.some Jvm.ClassFile.FieldType.int)) ∈ lw_all := lw_g (lw_at lw_m10 60 rfl) rfl
theorem q2294 : (Jvm.Cond.methodLink "JumpHall$Shelf" (55 : Nat) ({ cls := "java/util/HashMap", name := "entrySet", desc := "()Ljava/util/Set;" } : Jvm.MethodName)) ∈ lw_all := lw_g (lw_at lw_m10 61 rfl) rfl
theorem q2296 : (Jvm.Cond.methodLink "JumpHall$Shelf" (59 : Nat) ({ cls := "java/util/Set", name := "iterator", desc := "()Ljava/util/Iterator;" } : Jvm.MethodName)) ∈ lw_all := lw_g (lw_at lw_m10 63 rfl) rfl
theorem q2298 : (Jvm.Cond.methodLink "JumpHall$Shelf" (65 : Nat) ({ cls := "java/util/Iterator", name := "hasNext", desc := "()Z" } : Jvm.MethodName)) ∈ lw_all := lw_g (lw_at lw_m10 65 rfl) rfl
theorem q2300 : (Jvm.Cond.methodLink "JumpHall$Shelf" (71 : Nat) ({ cls := "java/util/Iterator", name := "next", desc := "()Ljava/lang/Object;" } : Jvm.MethodName)) ∈ lw_all := lw_g (lw_at lw_m10 67 rfl) rfl
theorem q2301 : (Jvm.Cond.classLink "JumpHall$Shelf" (75 : Nat) "java/util/Map$Entry") ∈ lw_all := lw_g (lw_at lw_m10 68 rfl) rfl
theorem q2303 : (Jvm.Cond.methodLink "JumpHall$Shelf" (77 : Nat) ({ cls := "java/util/Map$Entry", name := "getKey", desc := "()Ljava/lang/Object;" } : Jvm.MethodName)) ∈ lw_all := lw_g (lw_at lw_m10 70 rfl) rfl
theorem q2304 : (Jvm.Cond.classLink "JumpHall$Shelf" (80 : Nat) "JumpHall$Socks") ∈ lw_all := lw_g (lw_at lw_m10 71 rfl) rfl
theorem q2306 : (Jvm.Cond.methodLink "JumpHall$Shelf" (86 : Nat) ({ cls := "java/util/Map$Entry", name := "getValue", desc := "()Ljava/lang/Object;" } : Jvm.MethodName)) ∈ lw_all := lw_g (lw_at lw_m10 73 rfl) rfl
theorem q3505 : (Jvm.Cond.castable "JumpHall$Shelf" "java/lang/Object") ∈ lw_tbl := lw_at lw_m15 72 rfl
/-! java/util/AbstractMap -/
def RJ3 : String := "java/util/AbstractMap"
abbrev cJ3_init : ByteArray := prog_52_method_1_code
def yJ3_init : MethodName := ⟨RJ3, "<init>", "()V"⟩
theorem dJ3_init_0 : decode cJ3_init 0 = .ok (.aload_n 0, 1) := by decide +kernel
theorem dJ3_init_1 : decode cJ3_init 1 = .ok (.invokespecial 1, 3) := by decide +kernel
theorem dJ3_init_4 : decode cJ3_init 4 = .ok (.return_, 1) := by decide +kernel
theorem q80 : (Jvm.Cond.initialized "java/util/AbstractMap") ∈ lw_all := lw_g (lw_at lw_m1 7 rfl) rfl
theorem q193 : (Jvm.Cond.instanceMethod ({ cls := "java/util/AbstractMap", name := "<init>", desc := "()V" } : Jvm.MethodName)) ∈ lw_all := lw_g (lw_at lw_m1 120 rfl) rfl
theorem q194 : (Jvm.Cond.code ({ cls := "java/util/AbstractMap", name := "<init>", desc := "()V" } : Jvm.MethodName) prog_52_method_1_code (1 : Nat) (Option.none : Option Jvm.ClassFile.FieldType)) ∈ lw_all := lw_g (lw_at lw_m1 121 rfl) rfl
theorem q195 : (Jvm.Cond.methodLink "java/util/AbstractMap" (1 : Nat) ({ cls := "java/lang/Object", name := "<init>", desc := "()V" } : Jvm.MethodName)) ∈ lw_all := lw_g (lw_at lw_m1 122 rfl) rfl
