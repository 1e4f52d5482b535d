set_option maxRecDepth 100000
/-! JumpHall$Parser -/
def RX11 : String := "JumpHall$Parser"
abbrev cX11_init : ByteArray := prog_10_method_1_code
def yX11_init : MethodName := ⟨RX11, "<init>", "([CI)V"⟩
def dkwX11_init_1 : List UInt8 := [181, 0, 20, 177]
abbrev dktX11_init_1 : List UInt8 := dkwX11_init_1 ++ []
def dkwX11_init_0 : List UInt8 := [42, 183, 0, 1, 42, 187, 0, 7, 89, 183, 0, 9, 181, 0, 10, 42, 43, 181, 0, 16, 42, 28]
abbrev dktX11_init_0 : List UInt8 := dkwX11_init_0 ++ dktX11_init_1
theorem dksX11_init_0 : cX11_init.data.toList.drop 0 = dktX11_init_0 := by decide +kernel
theorem dksX11_init_1 : cX11_init.data.toList.drop 22 = dktX11_init_1 := dk_seg dksX11_init_0 22 rfl rfl
theorem dX11_init_0 : decode cX11_init 0 = .ok (.aload_n 0, 1) := dk_42 (dk_at dksX11_init_0 0 rfl rfl)
theorem dX11_init_1 : decode cX11_init 1 = .ok (.invokespecial 1, 3) := dk_183 0 1 (dk_at dksX11_init_0 1 rfl rfl)
theorem dX11_init_4 : decode cX11_init 4 = .ok (.aload_n 0, 1) := dk_42 (dk_at dksX11_init_0 4 rfl rfl)
theorem dX11_init_5 : decode cX11_init 5 = .ok (.new 7, 3) := dk_187 0 7 (dk_at dksX11_init_0 5 rfl rfl)
theorem dX11_init_8 : decode cX11_init 8 = .ok (.dup, 1) := dk_89 (dk_at dksX11_init_0 8 rfl rfl)
theorem dX11_init_9 : decode cX11_init 9 = .ok (.invokespecial 9, 3) := dk_183 0 9 (dk_at dksX11_init_0 9 rfl rfl)
theorem dX11_init_12 : decode cX11_init 12 = .ok (.putfield 10, 3) := dk_181 0 10 (dk_at dksX11_init_0 12 rfl rfl)
theorem dX11_init_15 : decode cX11_init 15 = .ok (.aload_n 0, 1) := dk_42 (dk_at dksX11_init_0 15 rfl rfl)
theorem dX11_init_16 : decode cX11_init 16 = .ok (.aload_n 1, 1) := dk_43 (dk_at dksX11_init_0 16 rfl rfl)
theorem dX11_init_17 : decode cX11_init 17 = .ok (.putfield 16, 3) := dk_181 0 16 (dk_at dksX11_init_0 17 rfl rfl)
theorem dX11_init_20 : decode cX11_init 20 = .ok (.aload_n 0, 1) := dk_42 (dk_at dksX11_init_0 20 rfl rfl)
theorem dX11_init_21 : decode cX11_init 21 = .ok (.iload_n 2, 1) := dk_28 (dk_at dksX11_init_0 21 rfl rfl)
theorem dX11_init_22 : decode cX11_init 22 = .ok (.putfield 20, 3) := dk_181 0 20 (dk_at dksX11_init_1 0 rfl rfl)
theorem dX11_init_25 : decode cX11_init 25 = .ok (.return_, 1) := dk_177 (dk_at dksX11_init_1 3 rfl rfl)
abbrev cX11_all : ByteArray := prog_10_method_8_code
def yX11_all : MethodName := ⟨RX11, "all", "()V"⟩
def dkwX11_all_1 : List UInt8 := [16, 59, 16, 59, 182, 0, 42, 60, 42, 180, 0, 10, 42, 182, 0, 122, 182, 0, 126, 87, 167, 255, 224, 177]
abbrev dktX11_all_1 : List UInt8 := dkwX11_all_1 ++ []
def dkwX11_all_0 : List UInt8 := [42, 180, 0, 10, 42, 182, 0, 122, 182, 0, 126, 87, 42, 180, 0, 24, 42, 180, 0, 20, 162, 0, 27, 42]
abbrev dktX11_all_0 : List UInt8 := dkwX11_all_0 ++ dktX11_all_1
theorem dksX11_all_0 : cX11_all.data.toList.drop 0 = dktX11_all_0 := by decide +kernel
theorem dksX11_all_1 : cX11_all.data.toList.drop 24 = dktX11_all_1 := dk_seg dksX11_all_0 24 rfl rfl
theorem dX11_all_0 : decode cX11_all 0 = .ok (.aload_n 0, 1) := dk_42 (dk_at dksX11_all_0 0 rfl rfl)
theorem dX11_all_1 : decode cX11_all 1 = .ok (.getfield 10, 3) := dk_180 0 10 (dk_at dksX11_all_0 1 rfl rfl)
theorem dX11_all_4 : decode cX11_all 4 = .ok (.aload_n 0, 1) := dk_42 (dk_at dksX11_all_0 4 rfl rfl)
theorem dX11_all_5 : decode cX11_all 5 = .ok (.invokevirtual 122, 3) := dk_182 0 122 (dk_at dksX11_all_0 5 rfl rfl)
theorem dX11_all_8 : decode cX11_all 8 = .ok (.invokevirtual 126, 3) := dk_182 0 126 (dk_at dksX11_all_0 8 rfl rfl)
theorem dX11_all_11 : decode cX11_all 11 = .ok (.pop, 1) := dk_87 (dk_at dksX11_all_0 11 rfl rfl)
theorem dX11_all_12 : decode cX11_all 12 = .ok (.aload_n 0, 1) := dk_42 (dk_at dksX11_all_0 12 rfl rfl)
theorem dX11_all_13 : decode cX11_all 13 = .ok (.getfield 24, 3) := dk_180 0 24 (dk_at dksX11_all_0 13 rfl rfl)
theorem dX11_all_16 : decode cX11_all 16 = .ok (.aload_n 0, 1) := dk_42 (dk_at dksX11_all_0 16 rfl rfl)
theorem dX11_all_17 : decode cX11_all 17 = .ok (.getfield 20, 3) := dk_180 0 20 (dk_at dksX11_all_0 17 rfl rfl)
theorem dX11_all_20 : decode cX11_all 20 = .ok (.if_icmp .ge 27, 3) := dk_162 0 27 (dk_at dksX11_all_0 20 rfl rfl)
theorem dX11_all_23 : decode cX11_all 23 = .ok (.aload_n 0, 1) := dk_42 (dk_at dksX11_all_0 23 rfl rfl)
theorem dX11_all_24 : decode cX11_all 24 = .ok (.bipush 59, 2) := dk_16 59 (dk_at dksX11_all_1 0 rfl rfl)
theorem dX11_all_26 : decode cX11_all 26 = .ok (.bipush 59, 2) := dk_16 59 (dk_at dksX11_all_1 2 rfl rfl)
theorem dX11_all_28 : decode cX11_all 28 = .ok (.invokevirtual 42, 3) := dk_182 0 42 (dk_at dksX11_all_1 4 rfl rfl)
theorem dX11_all_31 : decode cX11_all 31 = .ok (.istore_n 1, 1) := dk_60 (dk_at dksX11_all_1 7 rfl rfl)
theorem dX11_all_32 : decode cX11_all 32 = .ok (.aload_n 0, 1) := dk_42 (dk_at dksX11_all_1 8 rfl rfl)
theorem dX11_all_33 : decode cX11_all 33 = .ok (.getfield 10, 3) := dk_180 0 10 (dk_at dksX11_all_1 9 rfl rfl)
theorem dX11_all_36 : decode cX11_all 36 = .ok (.aload_n 0, 1) := dk_42 (dk_at dksX11_all_1 12 rfl rfl)
theorem dX11_all_37 : decode cX11_all 37 = .ok (.invokevirtual 122, 3) := dk_182 0 122 (dk_at dksX11_all_1 13 rfl rfl)
theorem dX11_all_40 : decode cX11_all 40 = .ok (.invokevirtual 126, 3) := dk_182 0 126 (dk_at dksX11_all_1 16 rfl rfl)
theorem dX11_all_43 : decode cX11_all 43 = .ok (.pop, 1) := dk_87 (dk_at dksX11_all_1 19 rfl rfl)
theorem dX11_all_44 : decode cX11_all 44 = .ok (.goto (-32), 3) := dk_167 255 224 (dk_at dksX11_all_1 20 rfl rfl)
theorem dX11_all_47 : decode cX11_all 47 = .ok (.return_, 1) := dk_177 (dk_at dksX11_all_1 23 rfl rfl)
abbrev cX11_command : ByteArray := prog_10_method_7_code
def yX11_command : MethodName := ⟨RX11, "command", "()LJumpHall$Command;"⟩
def dkwX11_command_6 : List UInt8 := [176]
abbrev dktX11_command_6 : List UInt8 := dkwX11_command_6 ++ []
def dkwX11_command_5 : List UInt8 := [187, 0, 117, 89, 43, 28, 3, 183, 0, 119, 176, 187, 0, 117, 89, 43, 28, 42, 182, 0, 107, 183, 0, 119]
abbrev dktX11_command_5 : List UInt8 := dkwX11_command_5 ++ dktX11_command_6
def dkwX11_command_4 : List UInt8 := [170, 0, 0, 0, 0, 0, 0, 39, 0, 0, 0, 0, 0, 0, 0, 2, 0, 0, 0, 28, 0, 0, 0, 28, 0, 0, 0, 28]
abbrev dktX11_command_4 : List UInt8 := dkwX11_command_4 ++ dktX11_command_5
def dkwX11_command_3 : List UInt8 := [4, 54, 4, 167, 0, 15, 45, 18, 79, 182, 0, 114, 153, 0, 6, 5, 54, 4, 21, 4]
abbrev dktX11_command_3 : List UInt8 := dkwX11_command_3 ++ dktX11_command_4
def dkwX11_command_2 : List UInt8 := [45, 18, 69, 182, 0, 114, 153, 0, 36, 3, 54, 4, 167, 0, 30, 45, 18, 77, 182, 0, 114, 153, 0, 21]
abbrev dktX11_command_2 : List UInt8 := dkwX11_command_2 ++ dktX11_command_3
def dkwX11_command_1 : List UInt8 := [171, 0, 0, 0, 75, 0, 0, 0, 3, 0, 47, 36, 162, 0, 0, 0, 33, 0, 52, 38, 74, 0, 0, 0, 48, 0, 52, 100, 17, 0, 0, 0, 63]
abbrev dktX11_command_1 : List UInt8 := dkwX11_command_1 ++ dktX11_command_2
def dkwX11_command_0 : List UInt8 := [42, 182, 0, 104, 76, 42, 182, 0, 107, 61, 43, 78, 2, 54, 4, 45, 182, 0, 111]
abbrev dktX11_command_0 : List UInt8 := dkwX11_command_0 ++ dktX11_command_1
theorem dksX11_command_0 : cX11_command.data.toList.drop 0 = dktX11_command_0 := by decide +kernel
theorem dksX11_command_1 : cX11_command.data.toList.drop 19 = dktX11_command_1 := dk_seg dksX11_command_0 19 rfl rfl
theorem dksX11_command_2 : cX11_command.data.toList.drop 52 = dktX11_command_2 := dk_seg dksX11_command_1 33 rfl rfl
theorem dksX11_command_3 : cX11_command.data.toList.drop 76 = dktX11_command_3 := dk_seg dksX11_command_2 24 rfl rfl
theorem dksX11_command_4 : cX11_command.data.toList.drop 96 = dktX11_command_4 := dk_seg dksX11_command_3 20 rfl rfl
theorem dksX11_command_5 : cX11_command.data.toList.drop 124 = dktX11_command_5 := dk_seg dksX11_command_4 28 rfl rfl
theorem dksX11_command_6 : cX11_command.data.toList.drop 148 = dktX11_command_6 := dk_seg dksX11_command_5 24 rfl rfl
theorem dX11_command_0 : decode cX11_command 0 = .ok (.aload_n 0, 1) := dk_42 (dk_at dksX11_command_0 0 rfl rfl)
theorem dX11_command_1 : decode cX11_command 1 = .ok (.invokevirtual 104, 3) := dk_182 0 104 (dk_at dksX11_command_0 1 rfl rfl)
theorem dX11_command_4 : decode cX11_command 4 = .ok (.astore_n 1, 1) := dk_76 (dk_at dksX11_command_0 4 rfl rfl)
theorem dX11_command_5 : decode cX11_command 5 = .ok (.aload_n 0, 1) := dk_42 (dk_at dksX11_command_0 5 rfl rfl)
theorem dX11_command_6 : decode cX11_command 6 = .ok (.invokevirtual 107, 3) := dk_182 0 107 (dk_at dksX11_command_0 6 rfl rfl)
theorem dX11_command_9 : decode cX11_command 9 = .ok (.istore_n 2, 1) := dk_61 (dk_at dksX11_command_0 9 rfl rfl)
theorem dX11_command_10 : decode cX11_command 10 = .ok (.aload_n 1, 1) := dk_43 (dk_at dksX11_command_0 10 rfl rfl)
theorem dX11_command_11 : decode cX11_command 11 = .ok (.astore_n 3, 1) := dk_78 (dk_at dksX11_command_0 11 rfl rfl)
theorem dX11_command_12 : decode cX11_command 12 = .ok (.iconst (-1), 1) := dk_2 (dk_at dksX11_command_0 12 rfl rfl)
theorem dX11_command_13 : decode cX11_command 13 = .ok (.istore 4, 2) := dk_54 4 (dk_at dksX11_command_0 13 rfl rfl)
theorem dX11_command_15 : decode cX11_command 15 = .ok (.aload_n 3, 1) := dk_45 (dk_at dksX11_command_0 15 rfl rfl)
theorem dX11_command_16 : decode cX11_command 16 = .ok (.invokevirtual 111, 3) := dk_182 0 111 (dk_at dksX11_command_0 16 rfl rfl)
theorem dX11_command_19 : decode cX11_command 19 = .ok (.lookupswitch 75 #[(3089570, 33), (3417674, 48), (3433489, 63)], 33) := by decide +kernel
theorem dX11_command_52 : decode cX11_command 52 = .ok (.aload_n 3, 1) := dk_45 (dk_at dksX11_command_2 0 rfl rfl)
theorem dX11_command_53 : decode cX11_command 53 = .ok (.ldc 69, 2) := dk_18 69 (dk_at dksX11_command_2 1 rfl rfl)
theorem dX11_command_55 : decode cX11_command 55 = .ok (.invokevirtual 114, 3) := dk_182 0 114 (dk_at dksX11_command_2 3 rfl rfl)
theorem dX11_command_58 : decode cX11_command 58 = .ok (.ifCond .eq 36, 3) := dk_153 0 36 (dk_at dksX11_command_2 6 rfl rfl)
theorem dX11_command_61 : decode cX11_command 61 = .ok (.iconst 0, 1) := dk_3 (dk_at dksX11_command_2 9 rfl rfl)
theorem dX11_command_62 : decode cX11_command 62 = .ok (.istore 4, 2) := dk_54 4 (dk_at dksX11_command_2 10 rfl rfl)
theorem dX11_command_64 : decode cX11_command 64 = .ok (.goto 30, 3) := dk_167 0 30 (dk_at dksX11_command_2 12 rfl rfl)
theorem dX11_command_67 : decode cX11_command 67 = .ok (.aload_n 3, 1) := dk_45 (dk_at dksX11_command_2 15 rfl rfl)
theorem dX11_command_68 : decode cX11_command 68 = .ok (.ldc 77, 2) := dk_18 77 (dk_at dksX11_command_2 16 rfl rfl)
theorem dX11_command_70 : decode cX11_command 70 = .ok (.invokevirtual 114, 3) := dk_182 0 114 (dk_at dksX11_command_2 18 rfl rfl)
theorem dX11_command_73 : decode cX11_command 73 = .ok (.ifCond .eq 21, 3) := dk_153 0 21 (dk_at dksX11_command_2 21 rfl rfl)
theorem dX11_command_76 : decode cX11_command 76 = .ok (.iconst 1, 1) := dk_4 (dk_at dksX11_command_3 0 rfl rfl)
theorem dX11_command_77 : decode cX11_command 77 = .ok (.istore 4, 2) := dk_54 4 (dk_at dksX11_command_3 1 rfl rfl)
theorem dX11_command_79 : decode cX11_command 79 = .ok (.goto 15, 3) := dk_167 0 15 (dk_at dksX11_command_3 3 rfl rfl)
theorem dX11_command_82 : decode cX11_command 82 = .ok (.aload_n 3, 1) := dk_45 (dk_at dksX11_command_3 6 rfl rfl)
theorem dX11_command_83 : decode cX11_command 83 = .ok (.ldc 79, 2) := dk_18 79 (dk_at dksX11_command_3 7 rfl rfl)
theorem dX11_command_85 : decode cX11_command 85 = .ok (.invokevirtual 114, 3) := dk_182 0 114 (dk_at dksX11_command_3 9 rfl rfl)
theorem dX11_command_88 : decode cX11_command 88 = .ok (.ifCond .eq 6, 3) := dk_153 0 6 (dk_at dksX11_command_3 12 rfl rfl)
theorem dX11_command_91 : decode cX11_command 91 = .ok (.iconst 2, 1) := dk_5 (dk_at dksX11_command_3 15 rfl rfl)
theorem dX11_command_92 : decode cX11_command 92 = .ok (.istore 4, 2) := dk_54 4 (dk_at dksX11_command_3 16 rfl rfl)
theorem dX11_command_94 : decode cX11_command 94 = .ok (.iload 4, 2) := dk_21 4 (dk_at dksX11_command_3 18 rfl rfl)
theorem dX11_command_96 : decode cX11_command 96 = .ok (.tableswitch 39 0 2 #[28, 28, 28], 28) := by decide +kernel
theorem dX11_command_124 : decode cX11_command 124 = .ok (.new 117, 3) := dk_187 0 117 (dk_at dksX11_command_5 0 rfl rfl)
theorem dX11_command_127 : decode cX11_command 127 = .ok (.dup, 1) := dk_89 (dk_at dksX11_command_5 3 rfl rfl)
theorem dX11_command_128 : decode cX11_command 128 = .ok (.aload_n 1, 1) := dk_43 (dk_at dksX11_command_5 4 rfl rfl)
theorem dX11_command_129 : decode cX11_command 129 = .ok (.iload_n 2, 1) := dk_28 (dk_at dksX11_command_5 5 rfl rfl)
theorem dX11_command_130 : decode cX11_command 130 = .ok (.iconst 0, 1) := dk_3 (dk_at dksX11_command_5 6 rfl rfl)
theorem dX11_command_131 : decode cX11_command 131 = .ok (.invokespecial 119, 3) := dk_183 0 119 (dk_at dksX11_command_5 7 rfl rfl)
theorem dX11_command_134 : decode cX11_command 134 = .ok (.areturn, 1) := dk_176 (dk_at dksX11_command_5 10 rfl rfl)
theorem dX11_command_135 : decode cX11_command 135 = .ok (.new 117, 3) := dk_187 0 117 (dk_at dksX11_command_5 11 rfl rfl)
theorem dX11_command_138 : decode cX11_command 138 = .ok (.dup, 1) := dk_89 (dk_at dksX11_command_5 14 rfl rfl)
theorem dX11_command_139 : decode cX11_command 139 = .ok (.aload_n 1, 1) := dk_43 (dk_at dksX11_command_5 15 rfl rfl)
theorem dX11_command_140 : decode cX11_command 140 = .ok (.iload_n 2, 1) := dk_28 (dk_at dksX11_command_5 16 rfl rfl)
theorem dX11_command_141 : decode cX11_command 141 = .ok (.aload_n 0, 1) := dk_42 (dk_at dksX11_command_5 17 rfl rfl)
theorem dX11_command_142 : decode cX11_command 142 = .ok (.invokevirtual 107, 3) := dk_182 0 107 (dk_at dksX11_command_5 18 rfl rfl)
theorem dX11_command_145 : decode cX11_command 145 = .ok (.invokespecial 119, 3) := dk_183 0 119 (dk_at dksX11_command_5 21 rfl rfl)
theorem dX11_command_148 : decode cX11_command 148 = .ok (.areturn, 1) := dk_176 (dk_at dksX11_command_6 0 rfl rfl)
abbrev cX11_word : ByteArray := prog_10_method_6_code
def yX11_word : MethodName := ⟨RX11, "word", "()Ljava/lang/String;"⟩
def dkwX11_word_3 : List UInt8 := [42, 89, 180, 0, 24, 4, 96, 181, 0, 24, 167, 255, 203, 44, 182, 0, 88, 176]
abbrev dktX11_word_3 : List UInt8 := dkwX11_word_3 ++ []
def dkwX11_word_2 : List UInt8 := [182, 0, 96, 182, 0, 88, 184, 0, 100, 154, 0, 15, 187, 0, 37, 89, 42, 180, 0, 24, 183, 0, 39, 191]
abbrev dktX11_word_2 : List UInt8 := dkwX11_word_2 ++ dktX11_word_3
def dkwX11_word_1 : List UInt8 := [183, 0, 87, 77, 43, 44, 182, 0, 88, 185, 0, 92, 2, 0, 154, 0, 46, 43, 44, 42, 182, 0, 27]
abbrev dktX11_word_1 : List UInt8 := dkwX11_word_1 ++ dktX11_word_2
def dkwX11_word_0 : List UInt8 := [18, 67, 18, 69, 18, 71, 18, 73, 18, 75, 18, 77, 18, 79, 184, 0, 81, 76, 187, 0, 85, 89]
abbrev dktX11_word_0 : List UInt8 := dkwX11_word_0 ++ dktX11_word_1
theorem dksX11_word_0 : cX11_word.data.toList.drop 0 = dktX11_word_0 := by decide +kernel
theorem dksX11_word_1 : cX11_word.data.toList.drop 22 = dktX11_word_1 := dk_seg dksX11_word_0 22 rfl rfl
theorem dksX11_word_2 : cX11_word.data.toList.drop 45 = dktX11_word_2 := dk_seg dksX11_word_1 23 rfl rfl
theorem dksX11_word_3 : cX11_word.data.toList.drop 69 = dktX11_word_3 := dk_seg dksX11_word_2 24 rfl rfl
theorem dX11_word_0 : decode cX11_word 0 = .ok (.ldc 67, 2) := dk_18 67 (dk_at dksX11_word_0 0 rfl rfl)
theorem dX11_word_2 : decode cX11_word 2 = .ok (.ldc 69, 2) := dk_18 69 (dk_at dksX11_word_0 2 rfl rfl)
theorem dX11_word_4 : decode cX11_word 4 = .ok (.ldc 71, 2) := dk_18 71 (dk_at dksX11_word_0 4 rfl rfl)
theorem dX11_word_6 : decode cX11_word 6 = .ok (.ldc 73, 2) := dk_18 73 (dk_at dksX11_word_0 6 rfl rfl)
theorem dX11_word_8 : decode cX11_word 8 = .ok (.ldc 75, 2) := dk_18 75 (dk_at dksX11_word_0 8 rfl rfl)
theorem dX11_word_10 : decode cX11_word 10 = .ok (.ldc 77, 2) := dk_18 77 (dk_at dksX11_word_0 10 rfl rfl)
theorem dX11_word_12 : decode cX11_word 12 = .ok (.ldc 79, 2) := dk_18 79 (dk_at dksX11_word_0 12 rfl rfl)
theorem dX11_word_14 : decode cX11_word 14 = .ok (.invokestatic 81, 3) := dk_184 0 81 (dk_at dksX11_word_0 14 rfl rfl)
theorem dX11_word_17 : decode cX11_word 17 = .ok (.astore_n 1, 1) := dk_76 (dk_at dksX11_word_0 17 rfl rfl)
theorem dX11_word_18 : decode cX11_word 18 = .ok (.new 85, 3) := dk_187 0 85 (dk_at dksX11_word_0 18 rfl rfl)
theorem dX11_word_21 : decode cX11_word 21 = .ok (.dup, 1) := dk_89 (dk_at dksX11_word_0 21 rfl rfl)
theorem dX11_word_22 : decode cX11_word 22 = .ok (.invokespecial 87, 3) := dk_183 0 87 (dk_at dksX11_word_1 0 rfl rfl)
theorem dX11_word_25 : decode cX11_word 25 = .ok (.astore_n 2, 1) := dk_77 (dk_at dksX11_word_1 3 rfl rfl)
theorem dX11_word_26 : decode cX11_word 26 = .ok (.aload_n 1, 1) := dk_43 (dk_at dksX11_word_1 4 rfl rfl)
theorem dX11_word_27 : decode cX11_word 27 = .ok (.aload_n 2, 1) := dk_44 (dk_at dksX11_word_1 5 rfl rfl)
theorem dX11_word_28 : decode cX11_word 28 = .ok (.invokevirtual 88, 3) := dk_182 0 88 (dk_at dksX11_word_1 6 rfl rfl)
theorem dX11_word_31 : decode cX11_word 31 = .ok (.invokeinterface 92 2, 5) := by decide +kernel
theorem dX11_word_36 : decode cX11_word 36 = .ok (.ifCond .ne 46, 3) := dk_154 0 46 (dk_at dksX11_word_1 14 rfl rfl)
theorem dX11_word_39 : decode cX11_word 39 = .ok (.aload_n 1, 1) := dk_43 (dk_at dksX11_word_1 17 rfl rfl)
theorem dX11_word_40 : decode cX11_word 40 = .ok (.aload_n 2, 1) := dk_44 (dk_at dksX11_word_1 18 rfl rfl)
theorem dX11_word_41 : decode cX11_word 41 = .ok (.aload_n 0, 1) := dk_42 (dk_at dksX11_word_1 19 rfl rfl)
theorem dX11_word_42 : decode cX11_word 42 = .ok (.invokevirtual 27, 3) := dk_182 0 27 (dk_at dksX11_word_1 20 rfl rfl)
theorem dX11_word_45 : decode cX11_word 45 = .ok (.invokevirtual 96, 3) := dk_182 0 96 (dk_at dksX11_word_2 0 rfl rfl)
theorem dX11_word_48 : decode cX11_word 48 = .ok (.invokevirtual 88, 3) := dk_182 0 88 (dk_at dksX11_word_2 3 rfl rfl)
theorem dX11_word_51 : decode cX11_word 51 = .ok (.invokestatic 100, 3) := dk_184 0 100 (dk_at dksX11_word_2 6 rfl rfl)
theorem dX11_word_54 : decode cX11_word 54 = .ok (.ifCond .ne 15, 3) := dk_154 0 15 (dk_at dksX11_word_2 9 rfl rfl)
theorem dX11_word_57 : decode cX11_word 57 = .ok (.new 37, 3) := dk_187 0 37 (dk_at dksX11_word_2 12 rfl rfl)
theorem dX11_word_60 : decode cX11_word 60 = .ok (.dup, 1) := dk_89 (dk_at dksX11_word_2 15 rfl rfl)
theorem dX11_word_61 : decode cX11_word 61 = .ok (.aload_n 0, 1) := dk_42 (dk_at dksX11_word_2 16 rfl rfl)
theorem dX11_word_62 : decode cX11_word 62 = .ok (.getfield 24, 3) := dk_180 0 24 (dk_at dksX11_word_2 17 rfl rfl)
theorem dX11_word_65 : decode cX11_word 65 = .ok (.invokespecial 39, 3) := dk_183 0 39 (dk_at dksX11_word_2 20 rfl rfl)
theorem dX11_word_68 : decode cX11_word 68 = .ok (.athrow, 1) := dk_191 (dk_at dksX11_word_2 23 rfl rfl)
theorem dX11_word_69 : decode cX11_word 69 = .ok (.aload_n 0, 1) := dk_42 (dk_at dksX11_word_3 0 rfl rfl)
theorem dX11_word_70 : decode cX11_word 70 = .ok (.dup, 1) := dk_89 (dk_at dksX11_word_3 1 rfl rfl)
theorem dX11_word_71 : decode cX11_word 71 = .ok (.getfield 24, 3) := dk_180 0 24 (dk_at dksX11_word_3 2 rfl rfl)
theorem dX11_word_74 : decode cX11_word 74 = .ok (.iconst 1, 1) := dk_4 (dk_at dksX11_word_3 5 rfl rfl)
theorem dX11_word_75 : decode cX11_word 75 = .ok (.iadd, 1) := dk_96 (dk_at dksX11_word_3 6 rfl rfl)
theorem dX11_word_76 : decode cX11_word 76 = .ok (.putfield 24, 3) := dk_181 0 24 (dk_at dksX11_word_3 7 rfl rfl)
theorem dX11_word_79 : decode cX11_word 79 = .ok (.goto (-53), 3) := dk_167 255 203 (dk_at dksX11_word_3 10 rfl rfl)
theorem dX11_word_82 : decode cX11_word 82 = .ok (.aload_n 2, 1) := dk_44 (dk_at dksX11_word_3 13 rfl rfl)
theorem dX11_word_83 : decode cX11_word 83 = .ok (.invokevirtual 88, 3) := dk_182 0 88 (dk_at dksX11_word_3 14 rfl rfl)
theorem dX11_word_86 : decode cX11_word 86 = .ok (.areturn, 1) := dk_176 (dk_at dksX11_word_3 17 rfl rfl)
abbrev cX11_peek : ByteArray := prog_10_method_2_code
def yX11_peek : MethodName := ⟨RX11, "peek", "()C"⟩
def dkwX11_peek_1 : List UInt8 := [172]
abbrev dktX11_peek_1 : List UInt8 := dkwX11_peek_1 ++ []
def dkwX11_peek_0 : List UInt8 := [42, 180, 0, 24, 42, 180, 0, 20, 162, 0, 15, 42, 180, 0, 16, 42, 180, 0, 24, 52, 167, 0, 4, 3]
abbrev dktX11_peek_0 : List UInt8 := dkwX11_peek_0 ++ dktX11_peek_1
theorem dksX11_peek_0 : cX11_peek.data.toList.drop 0 = dktX11_peek_0 := by decide +kernel
theorem dksX11_peek_1 : cX11_peek.data.toList.drop 24 = dktX11_peek_1 := dk_seg dksX11_peek_0 24 rfl rfl
theorem dX11_peek_0 : decode cX11_peek 0 = .ok (.aload_n 0, 1) := dk_42 (dk_at dksX11_peek_0 0 rfl rfl)
theorem dX11_peek_1 : decode cX11_peek 1 = .ok (.getfield 24, 3) := dk_180 0 24 (dk_at dksX11_peek_0 1 rfl rfl)
theorem dX11_peek_4 : decode cX11_peek 4 = .ok (.aload_n 0, 1) := dk_42 (dk_at dksX11_peek_0 4 rfl rfl)
theorem dX11_peek_5 : decode cX11_peek 5 = .ok (.getfield 20, 3) := dk_180 0 20 (dk_at dksX11_peek_0 5 rfl rfl)
theorem dX11_peek_8 : decode cX11_peek 8 = .ok (.if_icmp .ge 15, 3) := dk_162 0 15 (dk_at dksX11_peek_0 8 rfl rfl)
theorem dX11_peek_11 : decode cX11_peek 11 = .ok (.aload_n 0, 1) := dk_42 (dk_at dksX11_peek_0 11 rfl rfl)
theorem dX11_peek_12 : decode cX11_peek 12 = .ok (.getfield 16, 3) := dk_180 0 16 (dk_at dksX11_peek_0 12 rfl rfl)
theorem dX11_peek_15 : decode cX11_peek 15 = .ok (.aload_n 0, 1) := dk_42 (dk_at dksX11_peek_0 15 rfl rfl)
theorem dX11_peek_16 : decode cX11_peek 16 = .ok (.getfield 24, 3) := dk_180 0 24 (dk_at dksX11_peek_0 16 rfl rfl)
theorem dX11_peek_19 : decode cX11_peek 19 = .ok (.caload, 1) := dk_52 (dk_at dksX11_peek_0 19 rfl rfl)
theorem dX11_peek_20 : decode cX11_peek 20 = .ok (.goto 4, 3) := dk_167 0 4 (dk_at dksX11_peek_0 20 rfl rfl)
theorem dX11_peek_23 : decode cX11_peek 23 = .ok (.iconst 0, 1) := dk_3 (dk_at dksX11_peek_0 23 rfl rfl)
theorem dX11_peek_24 : decode cX11_peek 24 = .ok (.ireturn, 1) := dk_172 (dk_at dksX11_peek_1 0 rfl rfl)
abbrev cX11_isBegun : ByteArray := prog_10_method_5_code
def yX11_isBegun : MethodName := ⟨RX11, "isBegun", "(Ljava/util/List;Ljava/lang/String;)Z"⟩
def dkwX11_isBegun_1 : List UInt8 := [192, 0, 61, 78, 45, 43, 182, 0, 63, 153, 0, 5, 4, 172, 167, 255, 227, 3, 172]
abbrev dktX11_isBegun_1 : List UInt8 := dkwX11_isBegun_1 ++ []
def dkwX11_isBegun_0 : List UInt8 := [42, 185, 0, 46, 1, 0, 77, 44, 185, 0, 52, 1, 0, 153, 0, 26, 44, 185, 0, 58, 1, 0]
abbrev dktX11_isBegun_0 : List UInt8 := dkwX11_isBegun_0 ++ dktX11_isBegun_1
theorem dksX11_isBegun_0 : cX11_isBegun.data.toList.drop 0 = dktX11_isBegun_0 := by decide +kernel
theorem dksX11_isBegun_1 : cX11_isBegun.data.toList.drop 22 = dktX11_isBegun_1 := dk_seg dksX11_isBegun_0 22 rfl rfl
theorem dX11_isBegun_0 : decode cX11_isBegun 0 = .ok (.aload_n 0, 1) := dk_42 (dk_at dksX11_isBegun_0 0 rfl rfl)
theorem dX11_isBegun_1 : decode cX11_isBegun 1 = .ok (.invokeinterface 46 1, 5) := by decide +kernel
theorem dX11_isBegun_6 : decode cX11_isBegun 6 = .ok (.astore_n 2, 1) := dk_77 (dk_at dksX11_isBegun_0 6 rfl rfl)
theorem dX11_isBegun_7 : decode cX11_isBegun 7 = .ok (.aload_n 2, 1) := dk_44 (dk_at dksX11_isBegun_0 7 rfl rfl)
theorem dX11_isBegun_8 : decode cX11_isBegun 8 = .ok (.invokeinterface 52 1, 5) := by decide +kernel
theorem dX11_isBegun_13 : decode cX11_isBegun 13 = .ok (.ifCond .eq 26, 3) := dk_153 0 26 (dk_at dksX11_isBegun_0 13 rfl rfl)
theorem dX11_isBegun_16 : decode cX11_isBegun 16 = .ok (.aload_n 2, 1) := dk_44 (dk_at dksX11_isBegun_0 16 rfl rfl)
theorem dX11_isBegun_17 : decode cX11_isBegun 17 = .ok (.invokeinterface 58 1, 5) := by decide +kernel
theorem dX11_isBegun_22 : decode cX11_isBegun 22 = .ok (.checkcast 61, 3) := dk_192 0 61 (dk_at dksX11_isBegun_1 0 rfl rfl)
theorem dX11_isBegun_25 : decode cX11_isBegun 25 = .ok (.astore_n 3, 1) := dk_78 (dk_at dksX11_isBegun_1 3 rfl rfl)
theorem dX11_isBegun_26 : decode cX11_isBegun 26 = .ok (.aload_n 3, 1) := dk_45 (dk_at dksX11_isBegun_1 4 rfl rfl)
theorem dX11_isBegun_27 : decode cX11_isBegun 27 = .ok (.aload_n 1, 1) := dk_43 (dk_at dksX11_isBegun_1 5 rfl rfl)
theorem dX11_isBegun_28 : decode cX11_isBegun 28 = .ok (.invokevirtual 63, 3) := dk_182 0 63 (dk_at dksX11_isBegun_1 6 rfl rfl)
theorem dX11_isBegun_31 : decode cX11_isBegun 31 = .ok (.ifCond .eq 5, 3) := dk_153 0 5 (dk_at dksX11_isBegun_1 9 rfl rfl)
theorem dX11_isBegun_34 : decode cX11_isBegun 34 = .ok (.iconst 1, 1) := dk_4 (dk_at dksX11_isBegun_1 12 rfl rfl)
theorem dX11_isBegun_35 : decode cX11_isBegun 35 = .ok (.ireturn, 1) := dk_172 (dk_at dksX11_isBegun_1 13 rfl rfl)
theorem dX11_isBegun_36 : decode cX11_isBegun 36 = .ok (.goto (-29), 3) := dk_167 255 227 (dk_at dksX11_isBegun_1 14 rfl rfl)
theorem dX11_isBegun_39 : decode cX11_isBegun 39 = .ok (.iconst 0, 1) := dk_3 (dk_at dksX11_isBegun_1 17 rfl rfl)
theorem dX11_isBegun_40 : decode cX11_isBegun 40 = .ok (.ireturn, 1) := dk_172 (dk_at dksX11_isBegun_1 18 rfl rfl)
abbrev cX11_number : ByteArray := prog_10_method_4_code
def yX11_number : MethodName := ⟨RX11, "number", "()I"⟩
def dkwX11_number_2 : List UInt8 := [28, 172]
abbrev dktX11_number_2 : List UInt8 := dkwX11_number_2 ++ []
def dkwX11_number_1 : List UInt8 := [16, 57, 184, 0, 31, 153, 0, 19, 16, 10, 28, 104, 42, 16, 48, 16, 57, 182, 0, 42, 96, 167, 0, 4]
abbrev dktX11_number_1 : List UInt8 := dkwX11_number_1 ++ dktX11_number_2
def dkwX11_number_0 : List UInt8 := [42, 16, 32, 16, 32, 182, 0, 42, 60, 42, 16, 48, 16, 57, 182, 0, 42, 61, 42, 182, 0, 27, 16, 48]
abbrev dktX11_number_0 : List UInt8 := dkwX11_number_0 ++ dktX11_number_1
theorem dksX11_number_0 : cX11_number.data.toList.drop 0 = dktX11_number_0 := by decide +kernel
theorem dksX11_number_1 : cX11_number.data.toList.drop 24 = dktX11_number_1 := dk_seg dksX11_number_0 24 rfl rfl
theorem dksX11_number_2 : cX11_number.data.toList.drop 48 = dktX11_number_2 := dk_seg dksX11_number_1 24 rfl rfl
theorem dX11_number_0 : decode cX11_number 0 = .ok (.aload_n 0, 1) := dk_42 (dk_at dksX11_number_0 0 rfl rfl)
theorem dX11_number_1 : decode cX11_number 1 = .ok (.bipush 32, 2) := dk_16 32 (dk_at dksX11_number_0 1 rfl rfl)
theorem dX11_number_3 : decode cX11_number 3 = .ok (.bipush 32, 2) := dk_16 32 (dk_at dksX11_number_0 3 rfl rfl)
theorem dX11_number_5 : decode cX11_number 5 = .ok (.invokevirtual 42, 3) := dk_182 0 42 (dk_at dksX11_number_0 5 rfl rfl)
theorem dX11_number_8 : decode cX11_number 8 = .ok (.istore_n 1, 1) := dk_60 (dk_at dksX11_number_0 8 rfl rfl)
theorem dX11_number_9 : decode cX11_number 9 = .ok (.aload_n 0, 1) := dk_42 (dk_at dksX11_number_0 9 rfl rfl)
theorem dX11_number_10 : decode cX11_number 10 = .ok (.bipush 48, 2) := dk_16 48 (dk_at dksX11_number_0 10 rfl rfl)
theorem dX11_number_12 : decode cX11_number 12 = .ok (.bipush 57, 2) := dk_16 57 (dk_at dksX11_number_0 12 rfl rfl)
theorem dX11_number_14 : decode cX11_number 14 = .ok (.invokevirtual 42, 3) := dk_182 0 42 (dk_at dksX11_number_0 14 rfl rfl)
theorem dX11_number_17 : decode cX11_number 17 = .ok (.istore_n 2, 1) := dk_61 (dk_at dksX11_number_0 17 rfl rfl)
theorem dX11_number_18 : decode cX11_number 18 = .ok (.aload_n 0, 1) := dk_42 (dk_at dksX11_number_0 18 rfl rfl)
theorem dX11_number_19 : decode cX11_number 19 = .ok (.invokevirtual 27, 3) := dk_182 0 27 (dk_at dksX11_number_0 19 rfl rfl)
theorem dX11_number_22 : decode cX11_number 22 = .ok (.bipush 48, 2) := dk_16 48 (dk_at dksX11_number_0 22 rfl rfl)
theorem dX11_number_24 : decode cX11_number 24 = .ok (.bipush 57, 2) := dk_16 57 (dk_at dksX11_number_1 0 rfl rfl)
theorem dX11_number_26 : decode cX11_number 26 = .ok (.invokestatic 31, 3) := dk_184 0 31 (dk_at dksX11_number_1 2 rfl rfl)
theorem dX11_number_29 : decode cX11_number 29 = .ok (.ifCond .eq 19, 3) := dk_153 0 19 (dk_at dksX11_number_1 5 rfl rfl)
theorem dX11_number_32 : decode cX11_number 32 = .ok (.bipush 10, 2) := dk_16 10 (dk_at dksX11_number_1 8 rfl rfl)
theorem dX11_number_34 : decode cX11_number 34 = .ok (.iload_n 2, 1) := dk_28 (dk_at dksX11_number_1 10 rfl rfl)
theorem dX11_number_35 : decode cX11_number 35 = .ok (.imul, 1) := dk_104 (dk_at dksX11_number_1 11 rfl rfl)
theorem dX11_number_36 : decode cX11_number 36 = .ok (.aload_n 0, 1) := dk_42 (dk_at dksX11_number_1 12 rfl rfl)
theorem dX11_number_37 : decode cX11_number 37 = .ok (.bipush 48, 2) := dk_16 48 (dk_at dksX11_number_1 13 rfl rfl)
theorem dX11_number_39 : decode cX11_number 39 = .ok (.bipush 57, 2) := dk_16 57 (dk_at dksX11_number_1 15 rfl rfl)
theorem dX11_number_41 : decode cX11_number 41 = .ok (.invokevirtual 42, 3) := dk_182 0 42 (dk_at dksX11_number_1 17 rfl rfl)
theorem dX11_number_44 : decode cX11_number 44 = .ok (.iadd, 1) := dk_96 (dk_at dksX11_number_1 20 rfl rfl)
theorem dX11_number_45 : decode cX11_number 45 = .ok (.goto 4, 3) := dk_167 0 4 (dk_at dksX11_number_1 21 rfl rfl)
theorem dX11_number_48 : decode cX11_number 48 = .ok (.iload_n 2, 1) := dk_28 (dk_at dksX11_number_2 0 rfl rfl)
theorem dX11_number_49 : decode cX11_number 49 = .ok (.ireturn, 1) := dk_172 (dk_at dksX11_number_2 1 rfl rfl)
abbrev cX11_next : ByteArray := prog_10_method_3_code
def yX11_next : MethodName := ⟨RX11, "next", "(CC)I"⟩
def dkwX11_next_2 : List UInt8 := [172]
abbrev dktX11_next_2 : List UInt8 := dkwX11_next_2 ++ []
def dkwX11_next_1 : List UInt8 := [42, 89, 180, 0, 24, 4, 96, 181, 0, 24, 42, 180, 0, 16, 42, 180, 0, 24, 4, 100, 52, 16, 48, 100]
abbrev dktX11_next_1 : List UInt8 := dkwX11_next_1 ++ dktX11_next_2
def dkwX11_next_0 : List UInt8 := [42, 182, 0, 27, 27, 28, 184, 0, 31, 154, 0, 15, 187, 0, 37, 89, 42, 180, 0, 24, 183, 0, 39, 191]
abbrev dktX11_next_0 : List UInt8 := dkwX11_next_0 ++ dktX11_next_1
theorem dksX11_next_0 : cX11_next.data.toList.drop 0 = dktX11_next_0 := by decide +kernel
theorem dksX11_next_1 : cX11_next.data.toList.drop 24 = dktX11_next_1 := dk_seg dksX11_next_0 24 rfl rfl
theorem dksX11_next_2 : cX11_next.data.toList.drop 48 = dktX11_next_2 := dk_seg dksX11_next_1 24 rfl rfl
theorem dX11_next_0 : decode cX11_next 0 = .ok (.aload_n 0, 1) := dk_42 (dk_at dksX11_next_0 0 rfl rfl)
theorem dX11_next_1 : decode cX11_next 1 = .ok (.invokevirtual 27, 3) := dk_182 0 27 (dk_at dksX11_next_0 1 rfl rfl)
theorem dX11_next_4 : decode cX11_next 4 = .ok (.iload_n 1, 1) := dk_27 (dk_at dksX11_next_0 4 rfl rfl)
theorem dX11_next_5 : decode cX11_next 5 = .ok (.iload_n 2, 1) := dk_28 (dk_at dksX11_next_0 5 rfl rfl)
theorem dX11_next_6 : decode cX11_next 6 = .ok (.invokestatic 31, 3) := dk_184 0 31 (dk_at dksX11_next_0 6 rfl rfl)
theorem dX11_next_9 : decode cX11_next 9 = .ok (.ifCond .ne 15, 3) := dk_154 0 15 (dk_at dksX11_next_0 9 rfl rfl)
theorem dX11_next_12 : decode cX11_next 12 = .ok (.new 37, 3) := dk_187 0 37 (dk_at dksX11_next_0 12 rfl rfl)
theorem dX11_next_15 : decode cX11_next 15 = .ok (.dup, 1) := dk_89 (dk_at dksX11_next_0 15 rfl rfl)
theorem dX11_next_16 : decode cX11_next 16 = .ok (.aload_n 0, 1) := dk_42 (dk_at dksX11_next_0 16 rfl rfl)
theorem dX11_next_17 : decode cX11_next 17 = .ok (.getfield 24, 3) := dk_180 0 24 (dk_at dksX11_next_0 17 rfl rfl)
theorem dX11_next_20 : decode cX11_next 20 = .ok (.invokespecial 39, 3) := dk_183 0 39 (dk_at dksX11_next_0 20 rfl rfl)
theorem dX11_next_23 : decode cX11_next 23 = .ok (.athrow, 1) := dk_191 (dk_at dksX11_next_0 23 rfl rfl)
theorem dX11_next_24 : decode cX11_next 24 = .ok (.aload_n 0, 1) := dk_42 (dk_at dksX11_next_1 0 rfl rfl)
theorem dX11_next_25 : decode cX11_next 25 = .ok (.dup, 1) := dk_89 (dk_at dksX11_next_1 1 rfl rfl)
theorem dX11_next_26 : decode cX11_next 26 = .ok (.getfield 24, 3) := dk_180 0 24 (dk_at dksX11_next_1 2 rfl rfl)
theorem dX11_next_29 : decode cX11_next 29 = .ok (.iconst 1, 1) := dk_4 (dk_at dksX11_next_1 5 rfl rfl)
theorem dX11_next_30 : decode cX11_next 30 = .ok (.iadd, 1) := dk_96 (dk_at dksX11_next_1 6 rfl rfl)
theorem dX11_next_31 : decode cX11_next 31 = .ok (.putfield 24, 3) := dk_181 0 24 (dk_at dksX11_next_1 7 rfl rfl)
theorem dX11_next_34 : decode cX11_next 34 = .ok (.aload_n 0, 1) := dk_42 (dk_at dksX11_next_1 10 rfl rfl)
theorem dX11_next_35 : decode cX11_next 35 = .ok (.getfield 16, 3) := dk_180 0 16 (dk_at dksX11_next_1 11 rfl rfl)
theorem dX11_next_38 : decode cX11_next 38 = .ok (.aload_n 0, 1) := dk_42 (dk_at dksX11_next_1 14 rfl rfl)
theorem dX11_next_39 : decode cX11_next 39 = .ok (.getfield 24, 3) := dk_180 0 24 (dk_at dksX11_next_1 15 rfl rfl)
theorem dX11_next_42 : decode cX11_next 42 = .ok (.iconst 1, 1) := dk_4 (dk_at dksX11_next_1 18 rfl rfl)
theorem dX11_next_43 : decode cX11_next 43 = .ok (.isub, 1) := dk_100 (dk_at dksX11_next_1 19 rfl rfl)
theorem dX11_next_44 : decode cX11_next 44 = .ok (.caload, 1) := dk_52 (dk_at dksX11_next_1 20 rfl rfl)
theorem dX11_next_45 : decode cX11_next 45 = .ok (.bipush 48, 2) := dk_16 48 (dk_at dksX11_next_1 21 rfl rfl)
theorem dX11_next_47 : decode cX11_next 47 = .ok (.isub, 1) := dk_100 (dk_at dksX11_next_1 23 rfl rfl)
theorem dX11_next_48 : decode cX11_next 48 = .ok (.ireturn, 1) := dk_172 (dk_at dksX11_next_2 0 rfl rfl)
abbrev cX11_does : ByteArray := prog_10_method_9_code
def yX11_does : MethodName := ⟨RX11, "does", "(LJumpHall$Hall;)I"⟩
def dkwX11_does_1 : List UInt8 := [43, 28, 182, 0, 136, 132, 2, 1, 167, 255, 226, 42, 180, 0, 10, 182, 0, 129, 172]
abbrev dktX11_does_1 : List UInt8 := dkwX11_does_1 ++ []
def dkwX11_does_0 : List UInt8 := [3, 61, 28, 42, 180, 0, 10, 182, 0, 129, 162, 0, 25, 42, 180, 0, 10, 28, 182, 0, 132, 192, 0, 117]
abbrev dktX11_does_0 : List UInt8 := dkwX11_does_0 ++ dktX11_does_1
theorem dksX11_does_0 : cX11_does.data.toList.drop 0 = dktX11_does_0 := by decide +kernel
theorem dksX11_does_1 : cX11_does.data.toList.drop 24 = dktX11_does_1 := dk_seg dksX11_does_0 24 rfl rfl
theorem dX11_does_0 : decode cX11_does 0 = .ok (.iconst 0, 1) := dk_3 (dk_at dksX11_does_0 0 rfl rfl)
theorem dX11_does_1 : decode cX11_does 1 = .ok (.istore_n 2, 1) := dk_61 (dk_at dksX11_does_0 1 rfl rfl)
theorem dX11_does_2 : decode cX11_does 2 = .ok (.iload_n 2, 1) := dk_28 (dk_at dksX11_does_0 2 rfl rfl)
theorem dX11_does_3 : decode cX11_does 3 = .ok (.aload_n 0, 1) := dk_42 (dk_at dksX11_does_0 3 rfl rfl)
theorem dX11_does_4 : decode cX11_does 4 = .ok (.getfield 10, 3) := dk_180 0 10 (dk_at dksX11_does_0 4 rfl rfl)
theorem dX11_does_7 : decode cX11_does 7 = .ok (.invokevirtual 129, 3) := dk_182 0 129 (dk_at dksX11_does_0 7 rfl rfl)
theorem dX11_does_10 : decode cX11_does 10 = .ok (.if_icmp .ge 25, 3) := dk_162 0 25 (dk_at dksX11_does_0 10 rfl rfl)
theorem dX11_does_13 : decode cX11_does 13 = .ok (.aload_n 0, 1) := dk_42 (dk_at dksX11_does_0 13 rfl rfl)
theorem dX11_does_14 : decode cX11_does 14 = .ok (.getfield 10, 3) := dk_180 0 10 (dk_at dksX11_does_0 14 rfl rfl)
theorem dX11_does_17 : decode cX11_does 17 = .ok (.iload_n 2, 1) := dk_28 (dk_at dksX11_does_0 17 rfl rfl)
theorem dX11_does_18 : decode cX11_does 18 = .ok (.invokevirtual 132, 3) := dk_182 0 132 (dk_at dksX11_does_0 18 rfl rfl)
theorem dX11_does_21 : decode cX11_does 21 = .ok (.checkcast 117, 3) := dk_192 0 117 (dk_at dksX11_does_0 21 rfl rfl)
theorem dX11_does_24 : decode cX11_does 24 = .ok (.aload_n 1, 1) := dk_43 (dk_at dksX11_does_1 0 rfl rfl)
theorem dX11_does_25 : decode cX11_does 25 = .ok (.iload_n 2, 1) := dk_28 (dk_at dksX11_does_1 1 rfl rfl)
theorem dX11_does_26 : decode cX11_does 26 = .ok (.invokevirtual 136, 3) := dk_182 0 136 (dk_at dksX11_does_1 2 rfl rfl)
theorem dX11_does_29 : decode cX11_does 29 = .ok (.iinc 2 1, 3) := dk_132 2 1 (dk_at dksX11_does_1 5 rfl rfl)
theorem dX11_does_32 : decode cX11_does 32 = .ok (.goto (-30), 3) := dk_167 255 226 (dk_at dksX11_does_1 8 rfl rfl)
theorem dX11_does_35 : decode cX11_does 35 = .ok (.aload_n 0, 1) := dk_42 (dk_at dksX11_does_1 11 rfl rfl)
theorem dX11_does_36 : decode cX11_does 36 = .ok (.getfield 10, 3) := dk_180 0 10 (dk_at dksX11_does_1 12 rfl rfl)
theorem dX11_does_39 : decode cX11_does 39 = .ok (.invokevirtual 129, 3) := dk_182 0 129 (dk_at dksX11_does_1 15 rfl rfl)
theorem dX11_does_42 : decode cX11_does 42 = .ok (.ireturn, 1) := dk_172 (dk_at dksX11_does_1 18 rfl rfl)
theorem q129 : (Jvm.Cond.initialized "JumpHall$Parser") ∈ lw_all := lw_g (lw_at lw_m1 56 rfl) rfl
theorem q2674 : (Jvm.Cond.instantiable "JumpHall$Parser" (4 : Nat)) ∈ lw_all := lw_g (lw_at lw_m11 201 rfl) rfl
theorem q2676 : (Jvm.Cond.instanceMethod ({ cls := "JumpHall$Parser", name := "<init>", desc := "([CI)V" } : Jvm.MethodName)) ∈ lw_all := lw_g (lw_at lw_m11 203 rfl) rfl
theorem q2677 : (Jvm.Cond.code ({ cls := "JumpHall$Parser", name := "<init>", desc := "([CI)V" } : Jvm.MethodName) prog_10_method_1_code (3 : Nat) (Option.none : Option Jvm.ClassFile.FieldType)) ∈ lw_all := lw_g (lw_at lw_m11 204 rfl) rfl
theorem q2678 : (Jvm.Cond.methodLink "JumpHall$Parser" (1 : Nat) ({ cls := "java/lang/Object", name := "<init>", desc := "()V" } : Jvm.MethodName)) ∈ lw_all := lw_g (lw_at lw_m11 205 rfl) rfl
theorem q2679 : (Jvm.Cond.classLink "JumpHall$Parser" (7 : Nat) "java/util/ArrayList") ∈ lw_all := lw_g (lw_at lw_m11 206 rfl) rfl
theorem q2680 : (Jvm.Cond.methodLink "JumpHall$Parser" (9 : Nat) ({ cls := "java/util/ArrayList", name := "<init>", desc := "()V" } : Jvm.MethodName)) ∈ lw_all := lw_g (lw_at lw_m11 207 rfl) rfl
theorem q2681 : (Jvm.Cond.fieldLink "JumpHall$Parser" (16 : Nat) "JumpHall$Parser" "text" "[C") ∈ lw_all := lw_g (lw_at lw_m11 208 rfl) rfl
theorem q2682 : (Jvm.Cond.fieldLink "JumpHall$Parser" (20 : Nat) "JumpHall$Parser" "length" "I") ∈ lw_all := lw_g (lw_at lw_m11 209 rfl) rfl
theorem q2683 : (Jvm.Cond.fieldLink "JumpHall$Parser" (10 : Nat) "JumpHall$Parser" "commands" "Ljava/util/ArrayList;") ∈ lw_all := lw_g (lw_at lw_m11 210 rfl) rfl
theorem q2684 : (Jvm.Cond.fieldLink "JumpHall$Parser" (24 : Nat) "JumpHall$Parser" "at" "I") ∈ lw_all := lw_g (lw_at lw_m11 211 rfl) rfl
theorem q2695 : (Jvm.Cond.instanceMethod ({ cls := "JumpHall$Parser", name := "all", desc := "()V" } : Jvm.MethodName)) ∈ lw_all := lw_g (lw_at lw_m11 222 rfl) rfl
theorem q2696 : (Jvm.Cond.selects "JumpHall$Parser" ({ cls := "JumpHall$Parser", name := "all", desc := "()V" } : Jvm.MethodName) ({ cls := "JumpHall$Parser", name := "all", desc := "()V" } : Jvm.MethodName)) ∈ lw_all := lw_g (lw_at lw_m11 223 rfl) rfl
theorem q2697 : (Jvm.Cond.code ({ cls := "JumpHall$Parser", name := "all", desc := "()V" } : Jvm.MethodName) prog_10_method_8_code (2 : Nat) (Option.none : Option Jvm.ClassFile.FieldType)) ∈ lw_all := lw_g (lw_at lw_m11 224 rfl) rfl
theorem q2698 : (Jvm.Cond.methodLink "JumpHall$Parser" (122 : Nat) ({ cls := "JumpHall$Parser", name := "command", desc := "()LJumpHall$Command;" } : Jvm.MethodName)) ∈ lw_all := lw_g (lw_at lw_m11 225 rfl) rfl
theorem q2700 : (Jvm.Cond.instanceMethod ({ cls := "JumpHall$Parser", name := "command", desc := "()LJumpHall$Command;" } : Jvm.MethodName)) ∈ lw_all := lw_g (lw_at lw_m11 227 rfl) rfl
theorem q2701 : (Jvm.Cond.code ({ cls := "JumpHall$Parser", name := "command", desc := "()LJumpHall$Command;" } : Jvm.MethodName) prog_10_method_7_code (5 : Nat) (Option.some (Jvm.ClassFile.FieldType.object "JumpHall$Command"))) ∈ lw_all := lw_g (lw_at lw_m11 228 rfl) rfl
theorem q2702 : (Jvm.Cond.methodLink "JumpHall$Parser" (104 : Nat) ({ cls := "JumpHall$Parser", name := "word", desc := "()Ljava/lang/String;" } : Jvm.MethodName)) ∈ lw_all := lw_g (lw_at lw_m11 229 rfl) rfl
theorem q2704 : (Jvm.Cond.instanceMethod ({ cls := "JumpHall$Parser", name := "word", desc := "()Ljava/lang/String;" } : Jvm.MethodName)) ∈ lw_all := lw_g (lw_at lw_m11 231 rfl) rfl
theorem q2705 : (Jvm.Cond.code ({ cls := "JumpHall$Parser", name := "word", desc := "()Ljava/lang/String;" } : Jvm.MethodName) prog_10_method_6_code (3 : Nat) (Option.some (Jvm.ClassFile.FieldType.object "java/lang/String"))) ∈ lw_all := lw_g (lw_at lw_m11 232 rfl) rfl
theorem q2713 : (Jvm.Cond.methodLink "JumpHall$Parser" (81 : Nat) ({ cls := "java/util/List", name := "of", desc := "(Ljava/lang/Object;Ljava/lang/Object;Ljava/lang/Object;Ljava/lang/Object;Ljava/lang/Object;Ljava/lang/Object;Ljava/lang/Object;)Ljava/util/List;" } : Jvm.MethodName)) ∈ lw_all := lw_g (lw_at lw_m12 0 rfl) rfl
theorem q2765 : (Jvm.Cond.classLink "JumpHall$Parser" (85 : Nat) "java/lang/StringBuilder") ∈ lw_all := lw_g (lw_at lw_m12 52 rfl) rfl
theorem q2766 : (Jvm.Cond.methodLink "JumpHall$Parser" (87 : Nat) ({ cls := "java/lang/StringBuilder", name := "<init>", desc := "()V" } : Jvm.MethodName)) ∈ lw_all := lw_g (lw_at lw_m12 53 rfl) rfl
theorem q2767 : (Jvm.Cond.methodLink "JumpHall$Parser" (88 : Nat) ({ cls := "java/lang/StringBuilder", name := "toString", desc := "()Ljava/lang/String;" } : Jvm.MethodName)) ∈ lw_all := lw_g (lw_at lw_m12 54 rfl) rfl
theorem q2769 : (Jvm.Cond.methodLink "JumpHall$Parser" (92 : Nat) ({ cls := "java/util/List", name := "contains", desc := "(Ljava/lang/Object;)Z" } : Jvm.MethodName)) ∈ lw_all := lw_g (lw_at lw_m12 56 rfl) rfl
theorem q2798 : (Jvm.Cond.methodLink "JumpHall$Parser" (27 : Nat) ({ cls := "JumpHall$Parser", name := "peek", desc := "()C" } : Jvm.MethodName)) ∈ lw_all := lw_g (lw_at lw_m12 85 rfl) rfl
theorem q2800 : (Jvm.Cond.instanceMethod ({ cls := "JumpHall$Parser", name := "peek", desc := "()C" } : Jvm.MethodName)) ∈ lw_all := lw_g (lw_at lw_m12 87 rfl) rfl
theorem q2801 : (Jvm.Cond.code ({ cls := "JumpHall$Parser", name := "peek", desc := "()C" } : Jvm.MethodName) prog_10_method_2_code (1 : Nat) (Option.some Jvm.ClassFile.FieldType.char)) ∈ lw_all := lw_g (lw_at lw_m12 88 rfl) rfl
theorem q2802 : (Jvm.Cond.methodLink "JumpHall$Parser" (96 : Nat) ({ cls := "java/lang/StringBuilder", name := "append", desc := "(C)Ljava/lang/StringBuilder;" } : Jvm.MethodName)) ∈ lw_all := lw_g (lw_at lw_m12 89 rfl) rfl
theorem q2803 : (Jvm.Cond.methodLink "JumpHall$Parser" (100 : Nat) ({ cls := "JumpHall$Parser", name := "isBegun", desc := "(Ljava/util/List;Ljava/lang/String;)Z" } : Jvm.MethodName)) ∈ lw_all := lw_g (lw_at lw_m12 90 rfl) rfl
theorem q2804 : (Jvm.Cond.static ({ cls := "JumpHall$Parser", name := "isBegun", desc := "(Ljava/util/List;Ljava/lang/String;)Z" } : Jvm.MethodName)) ∈ lw_all := lw_g (lw_at lw_m12 91 rfl) rfl
theorem q2805 : (Jvm.Cond.code ({ cls := "JumpHall$Parser", name := "isBegun", desc := "(Ljava/util/List;Ljava/lang/String;)Z" } : Jvm.MethodName) prog_10_method_5_code (4 : Nat) (Option.some Jvm.ClassFile.FieldType.boolean)) ∈ lw_all := lw_g (lw_at lw_m12 92 rfl) rfl
theorem q2807 : (Jvm.Cond.methodLink "JumpHall$Parser" (46 : Nat) ({ cls := "java/util/List", name := "iterator", desc := "()Ljava/util/Iterator;" } : Jvm.MethodName)) ∈ lw_all := lw_g (lw_at lw_m12 94 rfl) rfl
theorem q2819 : (Jvm.Cond.methodLink "JumpHall$Parser" (52 : Nat) ({ cls := "java/util/Iterator", name := "hasNext", desc := "()Z" } : Jvm.MethodName)) ∈ lw_all := lw_g (lw_at lw_m12 106 rfl) rfl
theorem q2821 : (Jvm.Cond.methodLink "JumpHall$Parser" (58 : Nat) ({ cls := "java/util/Iterator", name := "next", desc := "()Ljava/lang/Object;" } : Jvm.MethodName)) ∈ lw_all := lw_g (lw_at lw_m12 108 rfl) rfl
theorem q2822 : (Jvm.Cond.classLink "JumpHall$Parser" (61 : Nat) "java/lang/String") ∈ lw_all := lw_g (lw_at lw_m12 109 rfl) rfl
theorem q2823 : (Jvm.Cond.methodLink "JumpHall$Parser" (63 : Nat) ({ cls := "java/lang/String", name := "startsWith", desc := "(Ljava/lang/String;)Z" } : Jvm.MethodName)) ∈ lw_all := lw_g (lw_at lw_m12 110 rfl) rfl
theorem q2836 : (Jvm.Cond.classLink "JumpHall$Parser" (37 : Nat) "JumpHall$BadText") ∈ lw_all := lw_g (lw_at lw_m12 123 rfl) rfl
theorem q2845 : (Jvm.Cond.methodLink "JumpHall$Parser" (39 : Nat) ({ cls := "JumpHall$BadText", name := "<init>", desc := "(I)V" } : Jvm.MethodName)) ∈ lw_all := lw_g (lw_at lw_m12 132 rfl) rfl
theorem q2855 : (Jvm.Cond.methodLink "JumpHall$Parser" (107 : Nat) ({ cls := "JumpHall$Parser", name := "number", desc := "()I" } : Jvm.MethodName)) ∈ lw_all := lw_g (lw_at lw_m12 142 rfl) rfl
theorem q2857 : (Jvm.Cond.instanceMethod ({ cls := "JumpHall$Parser", name := "number", desc := "()I" } : Jvm.MethodName)) ∈ lw_all := lw_g (lw_at lw_m12 144 rfl) rfl
theorem q2858 : (Jvm.Cond.code ({ cls := "JumpHall$Parser", name := "number", desc := "()I" } : Jvm.MethodName) prog_10_method_4_code (3 : Nat) (Option.some Jvm.ClassFile.FieldType.int)) ∈ lw_all := lw_g (lw_at lw_m12 145 rfl) rfl
theorem q2859 : (Jvm.Cond.methodLink "JumpHall$Parser" (42 : Nat) ({ cls := "JumpHall$Parser", name := "next", desc := "(CC)I" } : Jvm.MethodName)) ∈ lw_all := lw_g (lw_at lw_m12 146 rfl) rfl
theorem q2861 : (Jvm.Cond.instanceMethod ({ cls := "JumpHall$Parser", name := "next", desc := "(CC)I" } : Jvm.MethodName)) ∈ lw_all := lw_g (lw_at lw_m12 148 rfl) rfl
theorem q2862 : (Jvm.Cond.code ({ cls := "JumpHall$Parser", name := "next", desc := "(CC)I" } : Jvm.MethodName) prog_10_method_3_code (3 : Nat) (Option.some Jvm.ClassFile.FieldType.int)) ∈ lw_all := lw_g (lw_at lw_m12 149 rfl) rfl
theorem q2863 : (Jvm.Cond.methodLinkNest "JumpHall$Parser" (31 : Nat) ({ cls := "JumpHall", name := "isIn", desc := "(III)Z" } : Jvm.MethodName) "JumpHall") ∈ lw_tbl := lw_at lw_m12 150 rfl
theorem q2864 : (Jvm.Cond.methodLink "JumpHall$Parser" (111 : Nat) ({ cls := "java/lang/String", name := "hashCode", desc := "()I" } : Jvm.MethodName)) ∈ lw_all := lw_g (lw_at lw_m12 151 rfl) rfl
theorem q2865 : (Jvm.Cond.methodLink "JumpHall$Parser" (114 : Nat) ({ cls := "java/lang/String", name := "equals", desc := "(Ljava/lang/Object;)Z" } : Jvm.MethodName)) ∈ lw_all := lw_g (lw_at lw_m12 152 rfl) rfl
theorem q2866 : (Jvm.Cond.classLink "JumpHall$Parser" (117 : Nat) "JumpHall$Command") ∈ lw_all := lw_g (lw_at lw_m12 153 rfl) rfl
theorem q2868 : (Jvm.Cond.methodLink "JumpHall$Parser" (119 : Nat) ({ cls := "JumpHall$Command", name := "<init>", desc := "(Ljava/lang/String;II)V" } : Jvm.MethodName)) ∈ lw_all := lw_g (lw_at lw_m12 155 rfl) rfl
theorem q2882 : (Jvm.Cond.methodLink "JumpHall$Parser" (126 : Nat) ({ cls := "java/util/ArrayList", name := "add", desc := "(Ljava/lang/Object;)Z" } : Jvm.MethodName)) ∈ lw_all := lw_g (lw_at lw_m12 169 rfl) rfl
theorem q2886 : (Jvm.Cond.instanceMethod ({ cls := "JumpHall$Parser", name := "does", desc := "(LJumpHall$Hall;)I" } : Jvm.MethodName)) ∈ lw_all := lw_g (lw_at lw_m12 173 rfl) rfl
theorem q2887 : (Jvm.Cond.selects "JumpHall$Parser" ({ cls := "JumpHall$Parser", name := "does", desc := "(LJumpHall$Hall;)I" } : Jvm.MethodName) ({ cls := "JumpHall$Parser", name := "does", desc := "(LJumpHall$Hall;)I" } : Jvm.MethodName)) ∈ lw_all := lw_g (lw_at lw_m12 174 rfl) rfl
theorem q2888 : (Jvm.Cond.code ({ cls := "JumpHall$Parser", name := "does", desc := "(LJumpHall$Hall;)I" } : Jvm.MethodName) prog_10_method_9_code (3 : Nat) (Option.some Jvm.ClassFile.FieldType.int)) ∈ lw_all := lw_g (lw_at lw_m12 175 rfl) rfl
theorem q2889 : (Jvm.Cond.methodLink "JumpHall$Parser" (129 : Nat) ({ cls := "java/util/ArrayList", name := "size", desc := "()I" } : Jvm.MethodName)) ∈ lw_all := lw_g (lw_at lw_m12 176 rfl) rfl
theorem q2890 : (Jvm.Cond.methodLink "JumpHall$Parser" (132 : Nat) ({ cls := "java/util/ArrayList", name := "get", desc := "(I)Ljava/lang/Object;" } : Jvm.MethodName)) ∈ lw_all := lw_g (lw_at lw_m12 177 rfl) rfl
theorem q2891 : (Jvm.Cond.methodLink "JumpHall$Parser" (136 : Nat) ({ cls := "JumpHall$Command", name := "on", desc := "(LJumpHall$Hall;I)V" } : Jvm.MethodName)) ∈ lw_all := lw_g (lw_at lw_m12 178 rfl) rfl
theorem q3530 : (Jvm.Cond.castable "JumpHall$Parser" "java/lang/Object") ∈ lw_tbl := lw_at lw_m15 97 rfl
/-! java/util/List -/
def RJ41 : String := "java/util/List"
abbrev cJ41_of : ByteArray := prog_72_method_43_code
def yJ41_of : MethodName := ⟨RJ41, "of", "(Ljava/lang/Object;Ljava/lang/Object;Ljava/lang/Object;Ljava/lang/Object;Ljava/lang/Object;Ljava/lang/Object;Ljava/lang/Object;)Ljava/util/List;"⟩
def dkwJ41_of_1 : List UInt8 := [25, 4, 83, 89, 8, 25, 5, 83, 89, 16, 6, 25, 6, 83, 184, 0, 105, 176]
abbrev dktJ41_of_1 : List UInt8 := dkwJ41_of_1 ++ []
def dkwJ41_of_0 : List UInt8 := [16, 7, 189, 0, 103, 89, 3, 42, 83, 89, 4, 43, 83, 89, 5, 44, 83, 89, 6, 45, 83, 89, 7]
abbrev dktJ41_of_0 : List UInt8 := dkwJ41_of_0 ++ dktJ41_of_1
theorem dksJ41_of_0 : cJ41_of.data.toList.drop 0 = dktJ41_of_0 := by decide +kernel
theorem dksJ41_of_1 : cJ41_of.data.toList.drop 23 = dktJ41_of_1 := dk_seg dksJ41_of_0 23 rfl rfl
theorem dJ41_of_0 : decode cJ41_of 0 = .ok (.bipush 7, 2) := dk_16 7 (dk_at dksJ41_of_0 0 rfl rfl)
theorem dJ41_of_2 : decode cJ41_of 2 = .ok (.anewarray 103, 3) := dk_189 0 103 (dk_at dksJ41_of_0 2 rfl rfl)
theorem dJ41_of_5 : decode cJ41_of 5 = .ok (.dup, 1) := dk_89 (dk_at dksJ41_of_0 5 rfl rfl)
theorem dJ41_of_6 : decode cJ41_of 6 = .ok (.iconst 0, 1) := dk_3 (dk_at dksJ41_of_0 6 rfl rfl)
theorem dJ41_of_7 : decode cJ41_of 7 = .ok (.aload_n 0, 1) := dk_42 (dk_at dksJ41_of_0 7 rfl rfl)
theorem dJ41_of_8 : decode cJ41_of 8 = .ok (.aastore, 1) := dk_83 (dk_at dksJ41_of_0 8 rfl rfl)
theorem dJ41_of_9 : decode cJ41_of 9 = .ok (.dup, 1) := dk_89 (dk_at dksJ41_of_0 9 rfl rfl)
theorem dJ41_of_10 : decode cJ41_of 10 = .ok (.iconst 1, 1) := dk_4 (dk_at dksJ41_of_0 10 rfl rfl)
theorem dJ41_of_11 : decode cJ41_of 11 = .ok (.aload_n 1, 1) := dk_43 (dk_at dksJ41_of_0 11 rfl rfl)
theorem dJ41_of_12 : decode cJ41_of 12 = .ok (.aastore, 1) := dk_83 (dk_at dksJ41_of_0 12 rfl rfl)
theorem dJ41_of_13 : decode cJ41_of 13 = .ok (.dup, 1) := dk_89 (dk_at dksJ41_of_0 13 rfl rfl)
theorem dJ41_of_14 : decode cJ41_of 14 = .ok (.iconst 2, 1) := dk_5 (dk_at dksJ41_of_0 14 rfl rfl)
theorem dJ41_of_15 : decode cJ41_of 15 = .ok (.aload_n 2, 1) := dk_44 (dk_at dksJ41_of_0 15 rfl rfl)
theorem dJ41_of_16 : decode cJ41_of 16 = .ok (.aastore, 1) := dk_83 (dk_at dksJ41_of_0 16 rfl rfl)
theorem dJ41_of_17 : decode cJ41_of 17 = .ok (.dup, 1) := dk_89 (dk_at dksJ41_of_0 17 rfl rfl)
theorem dJ41_of_18 : decode cJ41_of 18 = .ok (.iconst 3, 1) := dk_6 (dk_at dksJ41_of_0 18 rfl rfl)
theorem dJ41_of_19 : decode cJ41_of 19 = .ok (.aload_n 3, 1) := dk_45 (dk_at dksJ41_of_0 19 rfl rfl)
theorem dJ41_of_20 : decode cJ41_of 20 = .ok (.aastore, 1) := dk_83 (dk_at dksJ41_of_0 20 rfl rfl)
theorem dJ41_of_21 : decode cJ41_of 21 = .ok (.dup, 1) := dk_89 (dk_at dksJ41_of_0 21 rfl rfl)
theorem dJ41_of_22 : decode cJ41_of 22 = .ok (.iconst 4, 1) := dk_7 (dk_at dksJ41_of_0 22 rfl rfl)
theorem dJ41_of_23 : decode cJ41_of 23 = .ok (.aload 4, 2) := dk_25 4 (dk_at dksJ41_of_1 0 rfl rfl)
theorem dJ41_of_25 : decode cJ41_of 25 = .ok (.aastore, 1) := dk_83 (dk_at dksJ41_of_1 2 rfl rfl)
theorem dJ41_of_26 : decode cJ41_of 26 = .ok (.dup, 1) := dk_89 (dk_at dksJ41_of_1 3 rfl rfl)
theorem dJ41_of_27 : decode cJ41_of 27 = .ok (.iconst 5, 1) := dk_8 (dk_at dksJ41_of_1 4 rfl rfl)
theorem dJ41_of_28 : decode cJ41_of 28 = .ok (.aload 5, 2) := dk_25 5 (dk_at dksJ41_of_1 5 rfl rfl)
theorem dJ41_of_30 : decode cJ41_of 30 = .ok (.aastore, 1) := dk_83 (dk_at dksJ41_of_1 7 rfl rfl)
theorem dJ41_of_31 : decode cJ41_of 31 = .ok (.dup, 1) := dk_89 (dk_at dksJ41_of_1 8 rfl rfl)
theorem dJ41_of_32 : decode cJ41_of 32 = .ok (.bipush 6, 2) := dk_16 6 (dk_at dksJ41_of_1 9 rfl rfl)
theorem dJ41_of_34 : decode cJ41_of 34 = .ok (.aload 6, 2) := dk_25 6 (dk_at dksJ41_of_1 11 rfl rfl)
theorem dJ41_of_36 : decode cJ41_of 36 = .ok (.aastore, 1) := dk_83 (dk_at dksJ41_of_1 13 rfl rfl)
theorem dJ41_of_37 : decode cJ41_of 37 = .ok (.invokestatic 105, 3) := dk_184 0 105 (dk_at dksJ41_of_1 14 rfl rfl)
theorem dJ41_of_40 : decode cJ41_of 40 = .ok (.areturn, 1) := dk_176 (dk_at dksJ41_of_1 17 rfl rfl)
theorem q130 : (Jvm.Cond.initialized "java/util/List") ∈ lw_all := lw_g (lw_at lw_m1 57 rfl) rfl
theorem q498 : (Jvm.Cond.interfaceMethod "java/util/List" "java/util/List" "get" "(I)Ljava/lang/Object;") ∈ lw_tbl := lw_at lw_m2 185 rfl
theorem q499 : (Jvm.Cond.declares ({ cls := "java/util/List", name := "get", desc := "(I)Ljava/lang/Object;" } : Jvm.MethodName)) ∈ lw_tbl := lw_at lw_m2 186 rfl
theorem q2714 : (Jvm.Cond.static ({ cls := "java/util/List", name := "of", desc := "(Ljava/lang/Object;Ljava/lang/Object;Ljava/lang/Object;Ljava/lang/Object;Ljava/lang/Object;Ljava/lang/Object;Ljava/lang/Object;)Ljava/util/List;" } : Jvm.MethodName)) ∈ lw_all := lw_g (lw_at lw_m12 1 rfl) rfl
theorem q2715 : (Jvm.Cond.code ({ cls := "java/util/List", name := "of", desc := "(Ljava/lang/Object;Ljava/lang/Object;Ljava/lang/Object;Ljava/lang/Object;Ljava/lang/Object;Ljava/lang/Object;Ljava/lang/Object;)Ljava/util/List;" } : Jvm.MethodName) prog_72_method_43_code (7 : Nat) (Option.some (Jvm.ClassFile.FieldType.object "java/util/List"))) ∈ lw_all := lw_g (lw_at lw_m12 2 rfl) rfl
theorem q2716 : (Jvm.Cond.classLink "java/util/List" (103 : Nat) "java/lang/Object") ∈ lw_all := lw_g (lw_at lw_m12 3 rfl) rfl
theorem q2717 : (Jvm.Cond.methodLink "java/util/List" (105 : Nat) ({ cls := "java/util/ImmutableCollections", name := "listFromTrustedArray", desc := "([Ljava/lang/Object;)Ljava/util/List;" } : Jvm.MethodName)) ∈ lw_all := lw_g (lw_at lw_m12 4 rfl) rfl
theorem q2770 : (Jvm.Cond.interfaceMethod "java/util/List" "java/util/List" "contains" "(Ljava/lang/Object;)Z") ∈ lw_tbl := lw_at lw_m12 57 rfl
theorem q2771 : (Jvm.Cond.declares ({ cls := "java/util/List", name := "contains", desc := "(Ljava/lang/Object;)Z" } : Jvm.MethodName)) ∈ lw_tbl := lw_at lw_m12 58 rfl
theorem q2784 : (Jvm.Cond.declares ({ cls := "java/util/List", name := "indexOf", desc := "(Ljava/lang/Object;)I" } : Jvm.MethodName)) ∈ lw_tbl := lw_at lw_m12 71 rfl
theorem q2808 : (Jvm.Cond.interfaceMethod "java/util/List" "java/util/List" "iterator" "()Ljava/util/Iterator;") ∈ lw_tbl := lw_at lw_m12 95 rfl
theorem q2809 : (Jvm.Cond.declares ({ cls := "java/util/List", name := "iterator", desc := "()Ljava/util/Iterator;" } : Jvm.MethodName)) ∈ lw_tbl := lw_at lw_m12 96 rfl
/-! java/util/ImmutableCollections$AbstractImmutableCollection -/
def RJ42 : String := "java/util/ImmutableCollections$AbstractImmutableCollection"
abbrev cJ42_init : ByteArray := prog_65_method_1_code
def yJ42_init : MethodName := ⟨RJ42, "<init>", "()V"⟩
theorem dJ42_init_0 : decode cJ42_init 0 = .ok (.aload_n 0, 1) := by decide +kernel
theorem dJ42_init_1 : decode cJ42_init 1 = .ok (.invokespecial 1, 3) := by decide +kernel
theorem dJ42_init_4 : decode cJ42_init 4 = .ok (.return_, 1) := by decide +kernel
theorem q131 : (Jvm.Cond.initialized "java/util/ImmutableCollections$AbstractImmutableCollection") ∈ lw_all := lw_g (lw_at lw_m1 58 rfl) rfl
theorem q2738 : (Jvm.Cond.instanceMethod ({ cls := "java/util/ImmutableCollections$AbstractImmutableCollection", name := "<init>", desc := "()V" } : Jvm.MethodName)) ∈ lw_all := lw_g (lw_at lw_m12 25 rfl) rfl
theorem q2739 : (Jvm.Cond.code ({ cls := "java/util/ImmutableCollections$AbstractImmutableCollection", name := "<init>", desc := "()V" } : Jvm.MethodName) prog_65_method_1_code (1 : Nat) (Option.none : Option Jvm.ClassFile.FieldType)) ∈ lw_all := lw_g (lw_at lw_m12 26 rfl) rfl
theorem q2740 : (Jvm.Cond.methodLink "java/util/ImmutableCollections$AbstractImmutableCollection" (1 : Nat) ({ cls := "java/util/AbstractCollection", name := "<init>", desc := "()V" } : Jvm.MethodName)) ∈ lw_all := lw_g (lw_at lw_m12 27 rfl) rfl
/-! java/util/ImmutableCollections$AbstractImmutableList -/
def RJ43 : String := "java/util/ImmutableCollections$AbstractImmutableList"
abbrev cJ43_iterator : ByteArray := prog_66_method_10_code
def yJ43_iterator : MethodName := ⟨RJ43, "iterator", "()Ljava/util/Iterator;"⟩
def dkwJ43_iterator_0 : List UInt8 := [187, 0, 61, 89, 42, 42, 182, 0, 13, 183, 0, 63, 176]
abbrev dktJ43_iterator_0 : List UInt8 := dkwJ43_iterator_0 ++ []
theorem dksJ43_iterator_0 : cJ43_iterator.data.toList.drop 0 = dktJ43_iterator_0 := by decide +kernel
theorem dJ43_iterator_0 : decode cJ43_iterator 0 = .ok (.new 61, 3) := dk_187 0 61 (dk_at dksJ43_iterator_0 0 rfl rfl)
theorem dJ43_iterator_3 : decode cJ43_iterator 3 = .ok (.dup, 1) := dk_89 (dk_at dksJ43_iterator_0 3 rfl rfl)
theorem dJ43_iterator_4 : decode cJ43_iterator 4 = .ok (.aload_n 0, 1) := dk_42 (dk_at dksJ43_iterator_0 4 rfl rfl)
theorem dJ43_iterator_5 : decode cJ43_iterator 5 = .ok (.aload_n 0, 1) := dk_42 (dk_at dksJ43_iterator_0 5 rfl rfl)
theorem dJ43_iterator_6 : decode cJ43_iterator 6 = .ok (.invokevirtual 13, 3) := dk_182 0 13 (dk_at dksJ43_iterator_0 6 rfl rfl)
theorem dJ43_iterator_9 : decode cJ43_iterator 9 = .ok (.invokespecial 63, 3) := dk_183 0 63 (dk_at dksJ43_iterator_0 9 rfl rfl)
theorem dJ43_iterator_12 : decode cJ43_iterator 12 = .ok (.areturn, 1) := dk_176 (dk_at dksJ43_iterator_0 12 rfl rfl)
abbrev cJ43_init : ByteArray := prog_66_method_1_code
def yJ43_init : MethodName := ⟨RJ43, "<init>", "()V"⟩
theorem dJ43_init_0 : decode cJ43_init 0 = .ok (.aload_n 0, 1) := by decide +kernel
theorem dJ43_init_1 : decode cJ43_init 1 = .ok (.invokespecial 1, 3) := by decide +kernel
theorem dJ43_init_4 : decode cJ43_init 4 = .ok (.return_, 1) := by decide +kernel
abbrev cJ43_contains : ByteArray := prog_66_method_15_code
def yJ43_contains : MethodName := ⟨RJ43, "contains", "(Ljava/lang/Object;)Z"⟩
def dkwJ43_contains_0 : List UInt8 := [42, 43, 182, 0, 107, 155, 0, 7, 4, 167, 0, 4, 3, 172]
abbrev dktJ43_contains_0 : List UInt8 := dkwJ43_contains_0 ++ []
theorem dksJ43_contains_0 : cJ43_contains.data.toList.drop 0 = dktJ43_contains_0 := by decide +kernel
theorem dJ43_contains_0 : decode cJ43_contains 0 = .ok (.aload_n 0, 1) := dk_42 (dk_at dksJ43_contains_0 0 rfl rfl)
theorem dJ43_contains_1 : decode cJ43_contains 1 = .ok (.aload_n 1, 1) := dk_43 (dk_at dksJ43_contains_0 1 rfl rfl)
theorem dJ43_contains_2 : decode cJ43_contains 2 = .ok (.invokevirtual 107, 3) := dk_182 0 107 (dk_at dksJ43_contains_0 2 rfl rfl)
theorem dJ43_contains_5 : decode cJ43_contains 5 = .ok (.ifCond .lt 7, 3) := dk_155 0 7 (dk_at dksJ43_contains_0 5 rfl rfl)
theorem dJ43_contains_8 : decode cJ43_contains 8 = .ok (.iconst 1, 1) := dk_4 (dk_at dksJ43_contains_0 8 rfl rfl)
theorem dJ43_contains_9 : decode cJ43_contains 9 = .ok (.goto 4, 3) := dk_167 0 4 (dk_at dksJ43_contains_0 9 rfl rfl)
theorem dJ43_contains_12 : decode cJ43_contains 12 = .ok (.iconst 0, 1) := dk_3 (dk_at dksJ43_contains_0 12 rfl rfl)
theorem dJ43_contains_13 : decode cJ43_contains 13 = .ok (.ireturn, 1) := dk_172 (dk_at dksJ43_contains_0 13 rfl rfl)
theorem q132 : (Jvm.Cond.initialized "java/util/ImmutableCollections$AbstractImmutableList") ∈ lw_all := lw_g (lw_at lw_m1 59 rfl) rfl
theorem q688 : (Jvm.Cond.methodLink "java/util/ImmutableCollections$AbstractImmutableList" (13 : Nat) ({ cls := "java/util/ImmutableCollections$AbstractImmutableList", name := "size", desc := "()I" } : Jvm.MethodName)) ∈ lw_all := lw_g (lw_at lw_m3 135 rfl) rfl
theorem q689 : (Jvm.Cond.sameMethod "java/util/ImmutableCollections$AbstractImmutableList" "java/util/AbstractCollection" "size" "()I") ∈ lw_all := lw_g (lw_at lw_m3 136 rfl) rfl
theorem q1049 : (Jvm.Cond.instanceMethod ({ cls := "java/util/ImmutableCollections$AbstractImmutableList", name := "iterator", desc := "()Ljava/util/Iterator;" } : Jvm.MethodName)) ∈ lw_all := lw_g (lw_at lw_m5 16 rfl) rfl
theorem q1050 : (Jvm.Cond.code ({ cls := "java/util/ImmutableCollections$AbstractImmutableList", name := "iterator", desc := "()Ljava/util/Iterator;" } : Jvm.MethodName) prog_66_method_10_code (1 : Nat) (Option.some (Jvm.ClassFile.FieldType.object "java/util/Iterator"))) ∈ lw_all := lw_g (lw_at lw_m5 17 rfl) rfl
theorem q1051 : (Jvm.Cond.classLink "java/util/ImmutableCollections$AbstractImmutableList" (61 : Nat) "java/util/ImmutableCollections$ListItr") ∈ lw_all := lw_g (lw_at lw_m5 18 rfl) rfl
theorem q1053 : (Jvm.Cond.methodLink "java/util/ImmutableCollections$AbstractImmutableList" (63 : Nat) ({ cls := "java/util/ImmutableCollections$ListItr", name := "<init>", desc := "(Ljava/util/List;I)V" } : Jvm.MethodName)) ∈ lw_all := lw_g (lw_at lw_m5 20 rfl) rfl
theorem q2735 : (Jvm.Cond.instanceMethod ({ cls := "java/util/ImmutableCollections$AbstractImmutableList", name := "<init>", desc := "()V" } : Jvm.MethodName)) ∈ lw_all := lw_g (lw_at lw_m12 22 rfl) rfl
theorem q2736 : (Jvm.Cond.code ({ cls := "java/util/ImmutableCollections$AbstractImmutableList", name := "<init>", desc := "()V" } : Jvm.MethodName) prog_66_method_1_code (1 : Nat) (Option.none : Option Jvm.ClassFile.FieldType)) ∈ lw_all := lw_g (lw_at lw_m12 23 rfl) rfl
theorem q2737 : (Jvm.Cond.methodLink "java/util/ImmutableCollections$AbstractImmutableList" (1 : Nat) ({ cls := "java/util/ImmutableCollections$AbstractImmutableCollection", name := "<init>", desc := "()V" } : Jvm.MethodName)) ∈ lw_all := lw_g (lw_at lw_m12 24 rfl) rfl
theorem q2780 : (Jvm.Cond.instanceMethod ({ cls := "java/util/ImmutableCollections$AbstractImmutableList", name := "contains", desc := "(Ljava/lang/Object;)Z" } : Jvm.MethodName)) ∈ lw_all := lw_g (lw_at lw_m12 67 rfl) rfl
theorem q2781 : (Jvm.Cond.publicMethod ({ cls := "java/util/ImmutableCollections$AbstractImmutableList", name := "contains", desc := "(Ljava/lang/Object;)Z" } : Jvm.MethodName)) ∈ lw_tbl := lw_at lw_m12 68 rfl
theorem q2782 : (Jvm.Cond.code ({ cls := "java/util/ImmutableCollections$AbstractImmutableList", name := "contains", desc := "(Ljava/lang/Object;)Z" } : Jvm.MethodName) prog_66_method_15_code (2 : Nat) (Option.some Jvm.ClassFile.FieldType.boolean)) ∈ lw_all := lw_g (lw_at lw_m12 69 rfl) rfl
theorem q2815 : (Jvm.Cond.publicMethod ({ cls := "java/util/ImmutableCollections$AbstractImmutableList", name := "iterator", desc := "()Ljava/util/Iterator;" } : Jvm.MethodName)) ∈ lw_tbl := lw_at lw_m12 102 rfl
/-! java/util/ImmutableCollections$ListN -/
def RJ45 : String := "java/util/ImmutableCollections$ListN"
abbrev cJ45_size : ByteArray := prog_69_method_3_code
def yJ45_size : MethodName := ⟨RJ45, "size", "()I"⟩
def dkwJ45_size_0 : List UInt8 := [42, 180, 0, 7, 190, 172]
abbrev dktJ45_size_0 : List UInt8 := dkwJ45_size_0 ++ []
theorem dksJ45_size_0 : cJ45_size.data.toList.drop 0 = dktJ45_size_0 := by decide +kernel
theorem dJ45_size_0 : decode cJ45_size 0 = .ok (.aload_n 0, 1) := dk_42 (dk_at dksJ45_size_0 0 rfl rfl)
theorem dJ45_size_1 : decode cJ45_size 1 = .ok (.getfield 7, 3) := dk_180 0 7 (dk_at dksJ45_size_0 1 rfl rfl)
theorem dJ45_size_4 : decode cJ45_size 4 = .ok (.arraylength, 1) := dk_190 (dk_at dksJ45_size_0 4 rfl rfl)
theorem dJ45_size_5 : decode cJ45_size 5 = .ok (.ireturn, 1) := dk_172 (dk_at dksJ45_size_0 5 rfl rfl)
abbrev cJ45_get : ByteArray := prog_69_method_4_code
def yJ45_get : MethodName := ⟨RJ45, "get", "(I)Ljava/lang/Object;"⟩
def dkwJ45_get_0 : List UInt8 := [42, 180, 0, 7, 27, 50, 176]
abbrev dktJ45_get_0 : List UInt8 := dkwJ45_get_0 ++ []
theorem dksJ45_get_0 : cJ45_get.data.toList.drop 0 = dktJ45_get_0 := by decide +kernel
theorem dJ45_get_0 : decode cJ45_get 0 = .ok (.aload_n 0, 1) := dk_42 (dk_at dksJ45_get_0 0 rfl rfl)
theorem dJ45_get_1 : decode cJ45_get 1 = .ok (.getfield 7, 3) := dk_180 0 7 (dk_at dksJ45_get_0 1 rfl rfl)
theorem dJ45_get_4 : decode cJ45_get 4 = .ok (.iload_n 1, 1) := dk_27 (dk_at dksJ45_get_0 4 rfl rfl)
theorem dJ45_get_5 : decode cJ45_get 5 = .ok (.aaload, 1) := dk_50 (dk_at dksJ45_get_0 5 rfl rfl)
theorem dJ45_get_6 : decode cJ45_get 6 = .ok (.areturn, 1) := dk_176 (dk_at dksJ45_get_0 6 rfl rfl)
abbrev cJ45_init : ByteArray := prog_69_method_1_code
def yJ45_init : MethodName := ⟨RJ45, "<init>", "([Ljava/lang/Object;Z)V"⟩
def dkwJ45_init_0 : List UInt8 := [42, 183, 0, 1, 42, 43, 181, 0, 7, 42, 28, 181, 0, 13, 177]
abbrev dktJ45_init_0 : List UInt8 := dkwJ45_init_0 ++ []
theorem dksJ45_init_0 : cJ45_init.data.toList.drop 0 = dktJ45_init_0 := by decide +kernel
theorem dJ45_init_0 : decode cJ45_init 0 = .ok (.aload_n 0, 1) := dk_42 (dk_at dksJ45_init_0 0 rfl rfl)
theorem dJ45_init_1 : decode cJ45_init 1 = .ok (.invokespecial 1, 3) := dk_183 0 1 (dk_at dksJ45_init_0 1 rfl rfl)
theorem dJ45_init_4 : decode cJ45_init 4 = .ok (.aload_n 0, 1) := dk_42 (dk_at dksJ45_init_0 4 rfl rfl)
theorem dJ45_init_5 : decode cJ45_init 5 = .ok (.aload_n 1, 1) := dk_43 (dk_at dksJ45_init_0 5 rfl rfl)
theorem dJ45_init_6 : decode cJ45_init 6 = .ok (.putfield 7, 3) := dk_181 0 7 (dk_at dksJ45_init_0 6 rfl rfl)
theorem dJ45_init_9 : decode cJ45_init 9 = .ok (.aload_n 0, 1) := dk_42 (dk_at dksJ45_init_0 9 rfl rfl)
theorem dJ45_init_10 : decode cJ45_init 10 = .ok (.iload_n 2, 1) := dk_28 (dk_at dksJ45_init_0 10 rfl rfl)
theorem dJ45_init_11 : decode cJ45_init 11 = .ok (.putfield 13, 3) := dk_181 0 13 (dk_at dksJ45_init_0 11 rfl rfl)
theorem dJ45_init_14 : decode cJ45_init 14 = .ok (.return_, 1) := dk_177 (dk_at dksJ45_init_0 14 rfl rfl)
abbrev cJ45_indexOf : ByteArray := prog_69_method_9_code
def yJ45_indexOf : MethodName := ⟨RJ45, "indexOf", "(Ljava/lang/Object;)I"⟩
def dkwJ45_indexOf_2 : List UInt8 := [167, 255, 235, 2, 172]
abbrev dktJ45_indexOf_2 : List UInt8 := dkwJ45_indexOf_2 ++ []
def dkwJ45_indexOf_1 : List UInt8 := [3, 62, 29, 44, 190, 162, 0, 21, 43, 44, 29, 50, 184, 0, 53, 153, 0, 5, 29, 172, 132, 3, 1]
abbrev dktJ45_indexOf_1 : List UInt8 := dkwJ45_indexOf_1 ++ dktJ45_indexOf_2
def dkwJ45_indexOf_0 : List UInt8 := [42, 180, 0, 13, 154, 0, 15, 43, 199, 0, 11, 187, 0, 50, 89, 183, 0, 52, 191, 42, 180, 0, 7, 77]
abbrev dktJ45_indexOf_0 : List UInt8 := dkwJ45_indexOf_0 ++ dktJ45_indexOf_1
theorem dksJ45_indexOf_0 : cJ45_indexOf.data.toList.drop 0 = dktJ45_indexOf_0 := by decide +kernel
theorem dksJ45_indexOf_1 : cJ45_indexOf.data.toList.drop 24 = dktJ45_indexOf_1 := dk_seg dksJ45_indexOf_0 24 rfl rfl
theorem dksJ45_indexOf_2 : cJ45_indexOf.data.toList.drop 47 = dktJ45_indexOf_2 := dk_seg dksJ45_indexOf_1 23 rfl rfl
theorem dJ45_indexOf_0 : decode cJ45_indexOf 0 = .ok (.aload_n 0, 1) := dk_42 (dk_at dksJ45_indexOf_0 0 rfl rfl)
theorem dJ45_indexOf_1 : decode cJ45_indexOf 1 = .ok (.getfield 13, 3) := dk_180 0 13 (dk_at dksJ45_indexOf_0 1 rfl rfl)
theorem dJ45_indexOf_4 : decode cJ45_indexOf 4 = .ok (.ifCond .ne 15, 3) := dk_154 0 15 (dk_at dksJ45_indexOf_0 4 rfl rfl)
theorem dJ45_indexOf_7 : decode cJ45_indexOf 7 = .ok (.aload_n 1, 1) := dk_43 (dk_at dksJ45_indexOf_0 7 rfl rfl)
theorem dJ45_indexOf_8 : decode cJ45_indexOf 8 = .ok (.ifnonnull 11, 3) := dk_199 0 11 (dk_at dksJ45_indexOf_0 8 rfl rfl)
theorem dJ45_indexOf_11 : decode cJ45_indexOf 11 = .ok (.new 50, 3) := dk_187 0 50 (dk_at dksJ45_indexOf_0 11 rfl rfl)
theorem dJ45_indexOf_14 : decode cJ45_indexOf 14 = .ok (.dup, 1) := dk_89 (dk_at dksJ45_indexOf_0 14 rfl rfl)
theorem dJ45_indexOf_15 : decode cJ45_indexOf 15 = .ok (.invokespecial 52, 3) := dk_183 0 52 (dk_at dksJ45_indexOf_0 15 rfl rfl)
theorem dJ45_indexOf_18 : decode cJ45_indexOf 18 = .ok (.athrow, 1) := dk_191 (dk_at dksJ45_indexOf_0 18 rfl rfl)
theorem dJ45_indexOf_19 : decode cJ45_indexOf 19 = .ok (.aload_n 0, 1) := dk_42 (dk_at dksJ45_indexOf_0 19 rfl rfl)
theorem dJ45_indexOf_20 : decode cJ45_indexOf 20 = .ok (.getfield 7, 3) := dk_180 0 7 (dk_at dksJ45_indexOf_0 20 rfl rfl)
theorem dJ45_indexOf_23 : decode cJ45_indexOf 23 = .ok (.astore_n 2, 1) := dk_77 (dk_at dksJ45_indexOf_0 23 rfl rfl)
theorem dJ45_indexOf_24 : decode cJ45_indexOf 24 = .ok (.iconst 0, 1) := dk_3 (dk_at dksJ45_indexOf_1 0 rfl rfl)
theorem dJ45_indexOf_25 : decode cJ45_indexOf 25 = .ok (.istore_n 3, 1) := dk_62 (dk_at dksJ45_indexOf_1 1 rfl rfl)
theorem dJ45_indexOf_26 : decode cJ45_indexOf 26 = .ok (.iload_n 3, 1) := dk_29 (dk_at dksJ45_indexOf_1 2 rfl rfl)
theorem dJ45_indexOf_27 : decode cJ45_indexOf 27 = .ok (.aload_n 2, 1) := dk_44 (dk_at dksJ45_indexOf_1 3 rfl rfl)
theorem dJ45_indexOf_28 : decode cJ45_indexOf 28 = .ok (.arraylength, 1) := dk_190 (dk_at dksJ45_indexOf_1 4 rfl rfl)
theorem dJ45_indexOf_29 : decode cJ45_indexOf 29 = .ok (.if_icmp .ge 21, 3) := dk_162 0 21 (dk_at dksJ45_indexOf_1 5 rfl rfl)
theorem dJ45_indexOf_32 : decode cJ45_indexOf 32 = .ok (.aload_n 1, 1) := dk_43 (dk_at dksJ45_indexOf_1 8 rfl rfl)
theorem dJ45_indexOf_33 : decode cJ45_indexOf 33 = .ok (.aload_n 2, 1) := dk_44 (dk_at dksJ45_indexOf_1 9 rfl rfl)
theorem dJ45_indexOf_34 : decode cJ45_indexOf 34 = .ok (.iload_n 3, 1) := dk_29 (dk_at dksJ45_indexOf_1 10 rfl rfl)
theorem dJ45_indexOf_35 : decode cJ45_indexOf 35 = .ok (.aaload, 1) := dk_50 (dk_at dksJ45_indexOf_1 11 rfl rfl)
theorem dJ45_indexOf_36 : decode cJ45_indexOf 36 = .ok (.invokestatic 53, 3) := dk_184 0 53 (dk_at dksJ45_indexOf_1 12 rfl rfl)
theorem dJ45_indexOf_39 : decode cJ45_indexOf 39 = .ok (.ifCond .eq 5, 3) := dk_153 0 5 (dk_at dksJ45_indexOf_1 15 rfl rfl)
theorem dJ45_indexOf_42 : decode cJ45_indexOf 42 = .ok (.iload_n 3, 1) := dk_29 (dk_at dksJ45_indexOf_1 18 rfl rfl)
theorem dJ45_indexOf_43 : decode cJ45_indexOf 43 = .ok (.ireturn, 1) := dk_172 (dk_at dksJ45_indexOf_1 19 rfl rfl)
theorem dJ45_indexOf_44 : decode cJ45_indexOf 44 = .ok (.iinc 3 1, 3) := dk_132 3 1 (dk_at dksJ45_indexOf_1 20 rfl rfl)
theorem dJ45_indexOf_47 : decode cJ45_indexOf 47 = .ok (.goto (-21), 3) := dk_167 255 235 (dk_at dksJ45_indexOf_2 0 rfl rfl)
theorem dJ45_indexOf_50 : decode cJ45_indexOf 50 = .ok (.iconst (-1), 1) := dk_2 (dk_at dksJ45_indexOf_2 3 rfl rfl)
theorem dJ45_indexOf_51 : decode cJ45_indexOf 51 = .ok (.ireturn, 1) := dk_172 (dk_at dksJ45_indexOf_2 4 rfl rfl)
theorem q134 : (Jvm.Cond.initialized "java/util/ImmutableCollections$ListN") ∈ lw_all := lw_g (lw_at lw_m1 61 rfl) rfl
theorem q694 : (Jvm.Cond.selects "java/util/ImmutableCollections$ListN" ({ cls := "java/util/ImmutableCollections$AbstractImmutableList", name := "size", desc := "()I" } : Jvm.MethodName) ({ cls := "java/util/ImmutableCollections$ListN", name := "size", desc := "()I" } : Jvm.MethodName)) ∈ lw_all := lw_g (lw_at lw_m3 141 rfl) rfl
theorem q695 : (Jvm.Cond.instanceMethod ({ cls := "java/util/ImmutableCollections$ListN", name := "size", desc := "()I" } : Jvm.MethodName)) ∈ lw_all := lw_g (lw_at lw_m3 142 rfl) rfl
theorem q696 : (Jvm.Cond.code ({ cls := "java/util/ImmutableCollections$ListN", name := "size", desc := "()I" } : Jvm.MethodName) prog_69_method_3_code (1 : Nat) (Option.some Jvm.ClassFile.FieldType.int)) ∈ lw_all := lw_g (lw_at lw_m3 143 rfl) rfl
theorem q794 : (Jvm.Cond.castable "java/util/ImmutableCollections$ListN" "java/util/List") ∈ lw_tbl := lw_at lw_m4 1 rfl
theorem q795 : (Jvm.Cond.selects "java/util/ImmutableCollections$ListN" ({ cls := "java/util/List", name := "get", desc := "(I)Ljava/lang/Object;" } : Jvm.MethodName) ({ cls := "java/util/ImmutableCollections$ListN", name := "get", desc := "(I)Ljava/lang/Object;" } : Jvm.MethodName)) ∈ lw_all := lw_g (lw_at lw_m4 2 rfl) rfl
theorem q796 : (Jvm.Cond.unhidden "java/util/ImmutableCollections$ListN" "get" "(I)Ljava/lang/Object;") ∈ lw_tbl := lw_at lw_m4 3 rfl
theorem q797 : (Jvm.Cond.instanceMethod ({ cls := "java/util/ImmutableCollections$ListN", name := "get", desc := "(I)Ljava/lang/Object;" } : Jvm.MethodName)) ∈ lw_all := lw_g (lw_at lw_m4 4 rfl) rfl
theorem q798 : (Jvm.Cond.publicMethod ({ cls := "java/util/ImmutableCollections$ListN", name := "get", desc := "(I)Ljava/lang/Object;" } : Jvm.MethodName)) ∈ lw_tbl := lw_at lw_m4 5 rfl
theorem q799 : (Jvm.Cond.code ({ cls := "java/util/ImmutableCollections$ListN", name := "get", desc := "(I)Ljava/lang/Object;" } : Jvm.MethodName) prog_69_method_4_code (2 : Nat) (Option.some (Jvm.ClassFile.FieldType.object "java/lang/Object"))) ∈ lw_all := lw_g (lw_at lw_m4 6 rfl) rfl
theorem q2753 : (Jvm.Cond.instantiable "java/util/ImmutableCollections$ListN" (2 : Nat)) ∈ lw_all := lw_g (lw_at lw_m12 40 rfl) rfl
theorem q2755 : (Jvm.Cond.instanceMethod ({ cls := "java/util/ImmutableCollections$ListN", name := "<init>", desc := "([Ljava/lang/Object;Z)V" } : Jvm.MethodName)) ∈ lw_all := lw_g (lw_at lw_m12 42 rfl) rfl
theorem q2756 : (Jvm.Cond.code ({ cls := "java/util/ImmutableCollections$ListN", name := "<init>", desc := "([Ljava/lang/Object;Z)V" } : Jvm.MethodName) prog_69_method_1_code (3 : Nat) (Option.none : Option Jvm.ClassFile.FieldType)) ∈ lw_all := lw_g (lw_at lw_m12 43 rfl) rfl
theorem q2757 : (Jvm.Cond.methodLink "java/util/ImmutableCollections$ListN" (1 : Nat) ({ cls := "java/util/ImmutableCollections$AbstractImmutableList", name := "<init>", desc := "()V" } : Jvm.MethodName)) ∈ lw_all := lw_g (lw_at lw_m12 44 rfl) rfl
theorem q2758 : (Jvm.Cond.fieldLink "java/util/ImmutableCollections$ListN" (7 : Nat) "java/util/ImmutableCollections$ListN" "elements" "[Ljava/lang/Object;") ∈ lw_all := lw_g (lw_at lw_m12 45 rfl) rfl
theorem q2759 : (Jvm.Cond.fieldLink "java/util/ImmutableCollections$ListN" (13 : Nat) "java/util/ImmutableCollections$ListN" "allowNulls" "Z") ∈ lw_all := lw_g (lw_at lw_m12 46 rfl) rfl
theorem q2789 : (Jvm.Cond.selects "java/util/ImmutableCollections$ListN" ({ cls := "java/util/List", name := "indexOf", desc := "(Ljava/lang/Object;)I" } : Jvm.MethodName) ({ cls := "java/util/ImmutableCollections$ListN", name := "indexOf", desc := "(Ljava/lang/Object;)I" } : Jvm.MethodName)) ∈ lw_all := lw_g (lw_at lw_m12 76 rfl) rfl
theorem q2790 : (Jvm.Cond.instanceMethod ({ cls := "java/util/ImmutableCollections$ListN", name := "indexOf", desc := "(Ljava/lang/Object;)I" } : Jvm.MethodName)) ∈ lw_all := lw_g (lw_at lw_m12 77 rfl) rfl
theorem q2791 : (Jvm.Cond.code ({ cls := "java/util/ImmutableCollections$ListN", name := "indexOf", desc := "(Ljava/lang/Object;)I" } : Jvm.MethodName) prog_69_method_9_code (4 : Nat) (Option.some Jvm.ClassFile.FieldType.int)) ∈ lw_all := lw_g (lw_at lw_m12 78 rfl) rfl
theorem q2792 : (Jvm.Cond.methodLink "java/util/ImmutableCollections$ListN" (53 : Nat) ({ cls := "java/util/Objects", name := "equals", desc := "(Ljava/lang/Object;Ljava/lang/Object;)Z" } : Jvm.MethodName)) ∈ lw_all := lw_g (lw_at lw_m12 79 rfl) rfl
theorem q2796 : (Jvm.Cond.selects "java/util/ImmutableCollections$ListN" ({ cls := "java/util/List", name := "contains", desc := "(Ljava/lang/Object;)Z" } : Jvm.MethodName) ({ cls := "java/util/ImmutableCollections$AbstractImmutableList", name := "contains", desc := "(Ljava/lang/Object;)Z" } : Jvm.MethodName)) ∈ lw_all := lw_g (lw_at lw_m12 83 rfl) rfl
theorem q2797 : (Jvm.Cond.unhidden "java/util/ImmutableCollections$ListN" "contains" "(Ljava/lang/Object;)Z") ∈ lw_tbl := lw_at lw_m12 84 rfl
theorem q2816 : (Jvm.Cond.selects "java/util/ImmutableCollections$ListN" ({ cls := "java/util/List", name := "iterator", desc := "()Ljava/util/Iterator;" } : Jvm.MethodName) ({ cls := "java/util/ImmutableCollections$AbstractImmutableList", name := "iterator", desc := "()Ljava/util/Iterator;" } : Jvm.MethodName)) ∈ lw_all := lw_g (lw_at lw_m12 103 rfl) rfl
theorem q2817 : (Jvm.Cond.unhidden "java/util/ImmutableCollections$ListN" "iterator" "()Ljava/util/Iterator;") ∈ lw_tbl := lw_at lw_m12 104 rfl
theorem q3531 : (Jvm.Cond.castable "java/util/ImmutableCollections$ListN" "java/lang/Object") ∈ lw_tbl := lw_at lw_m15 98 rfl
/-! JumpHall$BadText -/
def RX12 : String := "JumpHall$BadText"
abbrev cX12_init : ByteArray := prog_2_method_1_code
def yX12_init : MethodName := ⟨RX12, "<init>", "(I)V"⟩
def dkwX12_init_0 : List UInt8 := [42, 183, 0, 1, 42, 27, 181, 0, 7, 177]
abbrev dktX12_init_0 : List UInt8 := dkwX12_init_0 ++ []
theorem dksX12_init_0 : cX12_init.data.toList.drop 0 = dktX12_init_0 := by decide +kernel
theorem dX12_init_0 : decode cX12_init 0 = .ok (.aload_n 0, 1) := dk_42 (dk_at dksX12_init_0 0 rfl rfl)
theorem dX12_init_1 : decode cX12_init 1 = .ok (.invokespecial 1, 3) := dk_183 0 1 (dk_at dksX12_init_0 1 rfl rfl)
theorem dX12_init_4 : decode cX12_init 4 = .ok (.aload_n 0, 1) := dk_42 (dk_at dksX12_init_0 4 rfl rfl)
theorem dX12_init_5 : decode cX12_init 5 = .ok (.iload_n 1, 1) := dk_27 (dk_at dksX12_init_0 5 rfl rfl)
theorem dX12_init_6 : decode cX12_init 6 = .ok (.putfield 7, 3) := dk_181 0 7 (dk_at dksX12_init_0 6 rfl rfl)
theorem dX12_init_9 : decode cX12_init 9 = .ok (.return_, 1) := dk_177 (dk_at dksX12_init_0 9 rfl rfl)
theorem q135 : (Jvm.Cond.initialized "JumpHall$BadText") ∈ lw_all := lw_g (lw_at lw_m1 62 rfl) rfl
theorem q2837 : (Jvm.Cond.instantiable "JumpHall$BadText" (7 : Nat)) ∈ lw_all := lw_g (lw_at lw_m12 124 rfl) rfl
theorem q2846 : (Jvm.Cond.instanceMethod ({ cls := "JumpHall$BadText", name := "<init>", desc := "(I)V" } : Jvm.MethodName)) ∈ lw_all := lw_g (lw_at lw_m12 133 rfl) rfl
theorem q2847 : (Jvm.Cond.code ({ cls := "JumpHall$BadText", name := "<init>", desc := "(I)V" } : Jvm.MethodName) prog_2_method_1_code (2 : Nat) (Option.none : Option Jvm.ClassFile.FieldType)) ∈ lw_all := lw_g (lw_at lw_m12 134 rfl) rfl
theorem q2848 : (Jvm.Cond.methodLink "JumpHall$BadText" (1 : Nat) ({ cls := "java/lang/Exception", name := "<init>", desc := "()V" } : Jvm.MethodName)) ∈ lw_all := lw_g (lw_at lw_m12 135 rfl) rfl
theorem q2849 : (Jvm.Cond.fieldLink "JumpHall$BadText" (7 : Nat) "JumpHall$BadText" "position" "I") ∈ lw_all := lw_g (lw_at lw_m12 136 rfl) rfl
theorem q3534 : (Jvm.Cond.castable "JumpHall$BadText" "java/lang/Object") ∈ lw_tbl := lw_at lw_m15 101 rfl
/-! JumpHall$Command -/
def RX13 : String := "JumpHall$Command"
abbrev cX13_init : ByteArray := prog_3_method_1_code
def yX13_init : MethodName := ⟨RX13, "<init>", "(Ljava/lang/String;II)V"⟩
def dkwX13_init_0 : List UInt8 := [42, 183, 0, 3, 42, 43, 181, 0, 9, 42, 28, 181, 0, 15, 42, 29, 181, 0, 19, 177]
abbrev dktX13_init_0 : List UInt8 := dkwX13_init_0 ++ []
theorem dksX13_init_0 : cX13_init.data.toList.drop 0 = dktX13_init_0 := by decide +kernel
theorem dX13_init_0 : decode cX13_init 0 = .ok (.aload_n 0, 1) := dk_42 (dk_at dksX13_init_0 0 rfl rfl)
theorem dX13_init_1 : decode cX13_init 1 = .ok (.invokespecial 3, 3) := dk_183 0 3 (dk_at dksX13_init_0 1 rfl rfl)
theorem dX13_init_4 : decode cX13_init 4 = .ok (.aload_n 0, 1) := dk_42 (dk_at dksX13_init_0 4 rfl rfl)
theorem dX13_init_5 : decode cX13_init 5 = .ok (.aload_n 1, 1) := dk_43 (dk_at dksX13_init_0 5 rfl rfl)
theorem dX13_init_6 : decode cX13_init 6 = .ok (.putfield 9, 3) := dk_181 0 9 (dk_at dksX13_init_0 6 rfl rfl)
theorem dX13_init_9 : decode cX13_init 9 = .ok (.aload_n 0, 1) := dk_42 (dk_at dksX13_init_0 9 rfl rfl)
theorem dX13_init_10 : decode cX13_init 10 = .ok (.iload_n 2, 1) := dk_28 (dk_at dksX13_init_0 10 rfl rfl)
theorem dX13_init_11 : decode cX13_init 11 = .ok (.putfield 15, 3) := dk_181 0 15 (dk_at dksX13_init_0 11 rfl rfl)
theorem dX13_init_14 : decode cX13_init 14 = .ok (.aload_n 0, 1) := dk_42 (dk_at dksX13_init_0 14 rfl rfl)
theorem dX13_init_15 : decode cX13_init 15 = .ok (.iload_n 3, 1) := dk_29 (dk_at dksX13_init_0 15 rfl rfl)
theorem dX13_init_16 : decode cX13_init 16 = .ok (.putfield 19, 3) := dk_181 0 19 (dk_at dksX13_init_0 16 rfl rfl)
theorem dX13_init_19 : decode cX13_init 19 = .ok (.return_, 1) := dk_177 (dk_at dksX13_init_0 19 rfl rfl)
abbrev cX13_on : ByteArray := prog_3_method_3_code
def yX13_on : MethodName := ⟨RX13, "on", "(LJumpHall$Hall;I)V"⟩
def dkwX13_on_1 : List UInt8 := [183, 0, 87, 45, 182, 0, 90, 191, 177]
abbrev dktX13_on_1 : List UInt8 := dkwX13_on_1 ++ []
def dkwX13_on_0 : List UInt8 := [42, 43, 182, 0, 74, 43, 185, 0, 78, 2, 0, 62, 167, 0, 19, 78, 187, 0, 83, 89, 16, 15, 28]
abbrev dktX13_on_0 : List UInt8 := dkwX13_on_0 ++ dktX13_on_1
theorem dksX13_on_0 : cX13_on.data.toList.drop 0 = dktX13_on_0 := by decide +kernel
theorem dksX13_on_1 : cX13_on.data.toList.drop 23 = dktX13_on_1 := dk_seg dksX13_on_0 23 rfl rfl
theorem dX13_on_0 : decode cX13_on 0 = .ok (.aload_n 0, 1) := dk_42 (dk_at dksX13_on_0 0 rfl rfl)
theorem dX13_on_1 : decode cX13_on 1 = .ok (.aload_n 1, 1) := dk_43 (dk_at dksX13_on_0 1 rfl rfl)
theorem dX13_on_2 : decode cX13_on 2 = .ok (.invokevirtual 74, 3) := dk_182 0 74 (dk_at dksX13_on_0 2 rfl rfl)
theorem dX13_on_5 : decode cX13_on 5 = .ok (.aload_n 1, 1) := dk_43 (dk_at dksX13_on_0 5 rfl rfl)
theorem dX13_on_6 : decode cX13_on 6 = .ok (.invokeinterface 78 2, 5) := by decide +kernel
theorem dX13_on_11 : decode cX13_on 11 = .ok (.istore_n 3, 1) := dk_62 (dk_at dksX13_on_0 11 rfl rfl)
theorem dX13_on_12 : decode cX13_on 12 = .ok (.goto 19, 3) := dk_167 0 19 (dk_at dksX13_on_0 12 rfl rfl)
theorem dX13_on_15 : decode cX13_on 15 = .ok (.astore_n 3, 1) := dk_78 (dk_at dksX13_on_0 15 rfl rfl)
theorem dX13_on_16 : decode cX13_on 16 = .ok (.new 83, 3) := dk_187 0 83 (dk_at dksX13_on_0 16 rfl rfl)
theorem dX13_on_19 : decode cX13_on 19 = .ok (.dup, 1) := dk_89 (dk_at dksX13_on_0 19 rfl rfl)
theorem dX13_on_20 : decode cX13_on 20 = .ok (.bipush 15, 2) := dk_16 15 (dk_at dksX13_on_0 20 rfl rfl)
theorem dX13_on_22 : decode cX13_on 22 = .ok (.iload_n 2, 1) := dk_28 (dk_at dksX13_on_0 22 rfl rfl)
theorem dX13_on_23 : decode cX13_on 23 = .ok (.invokespecial 87, 3) := dk_183 0 87 (dk_at dksX13_on_1 0 rfl rfl)
theorem dX13_on_26 : decode cX13_on 26 = .ok (.aload_n 3, 1) := dk_45 (dk_at dksX13_on_1 3 rfl rfl)
theorem dX13_on_27 : decode cX13_on 27 = .ok (.invokevirtual 90, 3) := dk_182 0 90 (dk_at dksX13_on_1 4 rfl rfl)
theorem dX13_on_30 : decode cX13_on 30 = .ok (.athrow, 1) := dk_191 (dk_at dksX13_on_1 7 rfl rfl)
theorem dX13_on_31 : decode cX13_on 31 = .ok (.return_, 1) := dk_177 (dk_at dksX13_on_1 8 rfl rfl)
abbrev cX13_deed : ByteArray := prog_3_method_2_code
def yX13_deed : MethodName := ⟨RX13, "deed", "(LJumpHall$Hall;)LJumpHall$Deed;"⟩
def dkwX13_deed_15 : List UInt8 := [184, 0, 69, 184, 0, 53, 42, 186, 0, 73, 0, 0, 176]
abbrev dktX13_deed_15 : List UInt8 := dkwX13_deed_15 ++ []
def dkwX13_deed_14 : List UInt8 := [42, 180, 0, 15, 182, 0, 50, 184, 0, 53, 42, 186, 0, 68, 0, 0, 176, 42, 180, 0, 15, 4, 16, 60]
abbrev dktX13_deed_14 : List UInt8 := dkwX13_deed_14 ++ dktX13_deed_15
def dkwX13_deed_13 : List UInt8 := [180, 0, 19, 16, 8, 162, 0, 7, 4, 167, 0, 4, 3, 184, 0, 53, 42, 186, 0, 67, 0, 0, 176, 43]
abbrev dktX13_deed_13 : List UInt8 := dkwX13_deed_13 ++ dktX13_deed_14
def dkwX13_deed_12 : List UInt8 := [3, 184, 0, 53, 42, 186, 0, 66, 0, 0, 176, 43, 42, 180, 0, 15, 182, 0, 50, 153, 0, 16, 42]
abbrev dktX13_deed_12 : List UInt8 := dkwX13_deed_12 ++ dktX13_deed_13
def dkwX13_deed_11 : List UInt8 := [180, 0, 15, 182, 0, 63, 153, 0, 18, 43, 42, 180, 0, 19, 182, 0, 50, 153, 0, 7, 4, 167, 0, 4]
abbrev dktX13_deed_11 : List UInt8 := dkwX13_deed_11 ++ dktX13_deed_12
def dkwX13_deed_10 : List UInt8 := [180, 0, 19, 6, 162, 0, 7, 4, 167, 0, 4, 3, 184, 0, 53, 42, 186, 0, 62, 0, 0, 176, 43, 42]
abbrev dktX13_deed_10 : List UInt8 := dkwX13_deed_10 ++ dktX13_deed_11
def dkwX13_deed_9 : List UInt8 := [184, 0, 53, 42, 186, 0, 61, 0, 0, 176, 43, 42, 180, 0, 15, 182, 0, 44, 153, 0, 15, 42]
abbrev dktX13_deed_9 : List UInt8 := dkwX13_deed_9 ++ dktX13_deed_10
def dkwX13_deed_8 : List UInt8 := [167, 0, 4, 3, 184, 0, 53, 42, 186, 0, 57, 0, 0, 176, 43, 42, 180, 0, 15, 182, 0, 44]
abbrev dktX13_deed_8 : List UInt8 := dkwX13_deed_8 ++ dktX13_deed_9
def dkwX13_deed_7 : List UInt8 := [43, 42, 180, 0, 15, 182, 0, 44, 153, 0, 18, 43, 42, 180, 0, 19, 182, 0, 50, 153, 0, 7, 4]
abbrev dktX13_deed_7 : List UInt8 := dkwX13_deed_7 ++ dktX13_deed_8
def dkwX13_deed_6 : List UInt8 := [170, 0, 0, 0, 0, 217, 0, 0, 0, 0, 0, 0, 0, 5, 0, 0, 0, 38, 0, 0, 0, 75, 0, 0, 0, 93, 0, 0, 0, 127, 0, 0, 0, 164, 0, 0, 0, 199]
abbrev dktX13_deed_6 : List UInt8 := dkwX13_deed_6 ++ dktX13_deed_7
def dkwX13_deed_5 : List UInt8 := [18, 42, 182, 0, 30, 153, 0, 5, 8, 62, 29]
abbrev dktX13_deed_5 : List UInt8 := dkwX13_deed_5 ++ dktX13_deed_6
def dkwX13_deed_4 : List UInt8 := [153, 0, 33, 6, 62, 167, 0, 28, 44, 18, 40, 182, 0, 30, 153, 0, 19, 7, 62, 167, 0, 14, 44]
abbrev dktX13_deed_4 : List UInt8 := dkwX13_deed_4 ++ dktX13_deed_5
def dkwX13_deed_3 : List UInt8 := [62, 167, 0, 56, 44, 18, 36, 182, 0, 30, 153, 0, 47, 5, 62, 167, 0, 42, 44, 18, 38, 182, 0, 30]
abbrev dktX13_deed_3 : List UInt8 := dkwX13_deed_3 ++ dktX13_deed_4
def dkwX13_deed_2 : List UInt8 := [44, 18, 28, 182, 0, 30, 153, 0, 75, 3, 62, 167, 0, 70, 44, 18, 34, 182, 0, 30, 153, 0, 61, 4]
abbrev dktX13_deed_2 : List UInt8 := dkwX13_deed_2 ++ dktX13_deed_3
def dkwX13_deed_1 : List UInt8 := [171, 0, 0, 0, 138, 0, 0, 0, 6, 0, 0, 14, 155, 0, 0, 0, 57, 0, 1, 140, 21, 0, 0, 0, 113, 0, 47, 36, 162, 0, 0, 0, 71, 0, 52, 38, 74, 0, 0, 0, 127, 0, 53, 207, 82, 0, 0, 0, 85, 5, 226, 30, 165, 0, 0, 0, 99]
abbrev dktX13_deed_1 : List UInt8 := dkwX13_deed_1 ++ dktX13_deed_2
def dkwX13_deed_0 : List UInt8 := [42, 180, 0, 9, 77, 2, 62, 44, 182, 0, 22]
abbrev dktX13_deed_0 : List UInt8 := dkwX13_deed_0 ++ dktX13_deed_1
theorem dksX13_deed_0 : cX13_deed.data.toList.drop 0 = dktX13_deed_0 := by decide +kernel
theorem dksX13_deed_1 : cX13_deed.data.toList.drop 11 = dktX13_deed_1 := dk_seg dksX13_deed_0 11 rfl rfl
theorem dksX13_deed_2 : cX13_deed.data.toList.drop 68 = dktX13_deed_2 := dk_seg dksX13_deed_1 57 rfl rfl
theorem dksX13_deed_3 : cX13_deed.data.toList.drop 92 = dktX13_deed_3 := dk_seg dksX13_deed_2 24 rfl rfl
theorem dksX13_deed_4 : cX13_deed.data.toList.drop 116 = dktX13_deed_4 := dk_seg dksX13_deed_3 24 rfl rfl
theorem dksX13_deed_5 : cX13_deed.data.toList.drop 139 = dktX13_deed_5 := dk_seg dksX13_deed_4 23 rfl rfl
theorem dksX13_deed_6 : cX13_deed.data.toList.drop 150 = dktX13_deed_6 := dk_seg dksX13_deed_5 11 rfl rfl
theorem dksX13_deed_7 : cX13_deed.data.toList.drop 188 = dktX13_deed_7 := dk_seg dksX13_deed_6 38 rfl rfl
theorem dksX13_deed_8 : cX13_deed.data.toList.drop 211 = dktX13_deed_8 := dk_seg dksX13_deed_7 23 rfl rfl
theorem dksX13_deed_9 : cX13_deed.data.toList.drop 233 = dktX13_deed_9 := dk_seg dksX13_deed_8 22 rfl rfl
theorem dksX13_deed_10 : cX13_deed.data.toList.drop 255 = dktX13_deed_10 := dk_seg dksX13_deed_9 22 rfl rfl
theorem dksX13_deed_11 : cX13_deed.data.toList.drop 279 = dktX13_deed_11 := dk_seg dksX13_deed_10 24 rfl rfl
theorem dksX13_deed_12 : cX13_deed.data.toList.drop 303 = dktX13_deed_12 := dk_seg dksX13_deed_11 24 rfl rfl
theorem dksX13_deed_13 : cX13_deed.data.toList.drop 326 = dktX13_deed_13 := dk_seg dksX13_deed_12 23 rfl rfl
theorem dksX13_deed_14 : cX13_deed.data.toList.drop 350 = dktX13_deed_14 := dk_seg dksX13_deed_13 24 rfl rfl
theorem dksX13_deed_15 : cX13_deed.data.toList.drop 374 = dktX13_deed_15 := dk_seg dksX13_deed_14 24 rfl rfl
theorem dX13_deed_0 : decode cX13_deed 0 = .ok (.aload_n 0, 1) := dk_42 (dk_at dksX13_deed_0 0 rfl rfl)
theorem dX13_deed_1 : decode cX13_deed 1 = .ok (.getfield 9, 3) := dk_180 0 9 (dk_at dksX13_deed_0 1 rfl rfl)
theorem dX13_deed_4 : decode cX13_deed 4 = .ok (.astore_n 2, 1) := dk_77 (dk_at dksX13_deed_0 4 rfl rfl)
theorem dX13_deed_5 : decode cX13_deed 5 = .ok (.iconst (-1), 1) := dk_2 (dk_at dksX13_deed_0 5 rfl rfl)
theorem dX13_deed_6 : decode cX13_deed 6 = .ok (.istore_n 3, 1) := dk_62 (dk_at dksX13_deed_0 6 rfl rfl)
theorem dX13_deed_7 : decode cX13_deed 7 = .ok (.aload_n 2, 1) := dk_44 (dk_at dksX13_deed_0 7 rfl rfl)
theorem dX13_deed_8 : decode cX13_deed 8 = .ok (.invokevirtual 22, 3) := dk_182 0 22 (dk_at dksX13_deed_0 8 rfl rfl)
theorem dX13_deed_11 : decode cX13_deed 11 = .ok (.lookupswitch 138 #[(3739, 57), (101397, 113), (3089570, 71), (3417674, 127), (3526482, 85), (98705061, 99)], 57) := by decide +kernel
theorem dX13_deed_68 : decode cX13_deed 68 = .ok (.aload_n 2, 1) := dk_44 (dk_at dksX13_deed_2 0 rfl rfl)
theorem dX13_deed_69 : decode cX13_deed 69 = .ok (.ldc 28, 2) := dk_18 28 (dk_at dksX13_deed_2 1 rfl rfl)
theorem dX13_deed_71 : decode cX13_deed 71 = .ok (.invokevirtual 30, 3) := dk_182 0 30 (dk_at dksX13_deed_2 3 rfl rfl)
theorem dX13_deed_74 : decode cX13_deed 74 = .ok (.ifCond .eq 75, 3) := dk_153 0 75 (dk_at dksX13_deed_2 6 rfl rfl)
theorem dX13_deed_77 : decode cX13_deed 77 = .ok (.iconst 0, 1) := dk_3 (dk_at dksX13_deed_2 9 rfl rfl)
theorem dX13_deed_78 : decode cX13_deed 78 = .ok (.istore_n 3, 1) := dk_62 (dk_at dksX13_deed_2 10 rfl rfl)
theorem dX13_deed_79 : decode cX13_deed 79 = .ok (.goto 70, 3) := dk_167 0 70 (dk_at dksX13_deed_2 11 rfl rfl)
theorem dX13_deed_82 : decode cX13_deed 82 = .ok (.aload_n 2, 1) := dk_44 (dk_at dksX13_deed_2 14 rfl rfl)
theorem dX13_deed_83 : decode cX13_deed 83 = .ok (.ldc 34, 2) := dk_18 34 (dk_at dksX13_deed_2 15 rfl rfl)
theorem dX13_deed_85 : decode cX13_deed 85 = .ok (.invokevirtual 30, 3) := dk_182 0 30 (dk_at dksX13_deed_2 17 rfl rfl)
theorem dX13_deed_88 : decode cX13_deed 88 = .ok (.ifCond .eq 61, 3) := dk_153 0 61 (dk_at dksX13_deed_2 20 rfl rfl)
theorem dX13_deed_91 : decode cX13_deed 91 = .ok (.iconst 1, 1) := dk_4 (dk_at dksX13_deed_2 23 rfl rfl)
theorem dX13_deed_92 : decode cX13_deed 92 = .ok (.istore_n 3, 1) := dk_62 (dk_at dksX13_deed_3 0 rfl rfl)
theorem dX13_deed_93 : decode cX13_deed 93 = .ok (.goto 56, 3) := dk_167 0 56 (dk_at dksX13_deed_3 1 rfl rfl)
theorem dX13_deed_96 : decode cX13_deed 96 = .ok (.aload_n 2, 1) := dk_44 (dk_at dksX13_deed_3 4 rfl rfl)
theorem dX13_deed_97 : decode cX13_deed 97 = .ok (.ldc 36, 2) := dk_18 36 (dk_at dksX13_deed_3 5 rfl rfl)
theorem dX13_deed_99 : decode cX13_deed 99 = .ok (.invokevirtual 30, 3) := dk_182 0 30 (dk_at dksX13_deed_3 7 rfl rfl)
theorem dX13_deed_102 : decode cX13_deed 102 = .ok (.ifCond .eq 47, 3) := dk_153 0 47 (dk_at dksX13_deed_3 10 rfl rfl)
theorem dX13_deed_105 : decode cX13_deed 105 = .ok (.iconst 2, 1) := dk_5 (dk_at dksX13_deed_3 13 rfl rfl)
theorem dX13_deed_106 : decode cX13_deed 106 = .ok (.istore_n 3, 1) := dk_62 (dk_at dksX13_deed_3 14 rfl rfl)
theorem dX13_deed_107 : decode cX13_deed 107 = .ok (.goto 42, 3) := dk_167 0 42 (dk_at dksX13_deed_3 15 rfl rfl)
theorem dX13_deed_110 : decode cX13_deed 110 = .ok (.aload_n 2, 1) := dk_44 (dk_at dksX13_deed_3 18 rfl rfl)
theorem dX13_deed_111 : decode cX13_deed 111 = .ok (.ldc 38, 2) := dk_18 38 (dk_at dksX13_deed_3 19 rfl rfl)
theorem dX13_deed_113 : decode cX13_deed 113 = .ok (.invokevirtual 30, 3) := dk_182 0 30 (dk_at dksX13_deed_3 21 rfl rfl)
theorem dX13_deed_116 : decode cX13_deed 116 = .ok (.ifCond .eq 33, 3) := dk_153 0 33 (dk_at dksX13_deed_4 0 rfl rfl)
theorem dX13_deed_119 : decode cX13_deed 119 = .ok (.iconst 3, 1) := dk_6 (dk_at dksX13_deed_4 3 rfl rfl)
theorem dX13_deed_120 : decode cX13_deed 120 = .ok (.istore_n 3, 1) := dk_62 (dk_at dksX13_deed_4 4 rfl rfl)
theorem dX13_deed_121 : decode cX13_deed 121 = .ok (.goto 28, 3) := dk_167 0 28 (dk_at dksX13_deed_4 5 rfl rfl)
theorem dX13_deed_124 : decode cX13_deed 124 = .ok (.aload_n 2, 1) := dk_44 (dk_at dksX13_deed_4 8 rfl rfl)
theorem dX13_deed_125 : decode cX13_deed 125 = .ok (.ldc 40, 2) := dk_18 40 (dk_at dksX13_deed_4 9 rfl rfl)
theorem dX13_deed_127 : decode cX13_deed 127 = .ok (.invokevirtual 30, 3) := dk_182 0 30 (dk_at dksX13_deed_4 11 rfl rfl)
theorem dX13_deed_130 : decode cX13_deed 130 = .ok (.ifCond .eq 19, 3) := dk_153 0 19 (dk_at dksX13_deed_4 14 rfl rfl)
theorem dX13_deed_133 : decode cX13_deed 133 = .ok (.iconst 4, 1) := dk_7 (dk_at dksX13_deed_4 17 rfl rfl)
theorem dX13_deed_134 : decode cX13_deed 134 = .ok (.istore_n 3, 1) := dk_62 (dk_at dksX13_deed_4 18 rfl rfl)
theorem dX13_deed_135 : decode cX13_deed 135 = .ok (.goto 14, 3) := dk_167 0 14 (dk_at dksX13_deed_4 19 rfl rfl)
theorem dX13_deed_138 : decode cX13_deed 138 = .ok (.aload_n 2, 1) := dk_44 (dk_at dksX13_deed_4 22 rfl rfl)
theorem dX13_deed_139 : decode cX13_deed 139 = .ok (.ldc 42, 2) := dk_18 42 (dk_at dksX13_deed_5 0 rfl rfl)
theorem dX13_deed_141 : decode cX13_deed 141 = .ok (.invokevirtual 30, 3) := dk_182 0 30 (dk_at dksX13_deed_5 2 rfl rfl)
theorem dX13_deed_144 : decode cX13_deed 144 = .ok (.ifCond .eq 5, 3) := dk_153 0 5 (dk_at dksX13_deed_5 5 rfl rfl)
theorem dX13_deed_147 : decode cX13_deed 147 = .ok (.iconst 5, 1) := dk_8 (dk_at dksX13_deed_5 8 rfl rfl)
theorem dX13_deed_148 : decode cX13_deed 148 = .ok (.istore_n 3, 1) := dk_62 (dk_at dksX13_deed_5 9 rfl rfl)
theorem dX13_deed_149 : decode cX13_deed 149 = .ok (.iload_n 3, 1) := dk_29 (dk_at dksX13_deed_5 10 rfl rfl)
theorem dX13_deed_150 : decode cX13_deed 150 = .ok (.tableswitch 217 0 5 #[38, 75, 93, 127, 164, 199], 38) := by decide +kernel
theorem dX13_deed_188 : decode cX13_deed 188 = .ok (.aload_n 1, 1) := dk_43 (dk_at dksX13_deed_7 0 rfl rfl)
theorem dX13_deed_189 : decode cX13_deed 189 = .ok (.aload_n 0, 1) := dk_42 (dk_at dksX13_deed_7 1 rfl rfl)
theorem dX13_deed_190 : decode cX13_deed 190 = .ok (.getfield 15, 3) := dk_180 0 15 (dk_at dksX13_deed_7 2 rfl rfl)
theorem dX13_deed_193 : decode cX13_deed 193 = .ok (.invokevirtual 44, 3) := dk_182 0 44 (dk_at dksX13_deed_7 5 rfl rfl)
theorem dX13_deed_196 : decode cX13_deed 196 = .ok (.ifCond .eq 18, 3) := dk_153 0 18 (dk_at dksX13_deed_7 8 rfl rfl)
theorem dX13_deed_199 : decode cX13_deed 199 = .ok (.aload_n 1, 1) := dk_43 (dk_at dksX13_deed_7 11 rfl rfl)
theorem dX13_deed_200 : decode cX13_deed 200 = .ok (.aload_n 0, 1) := dk_42 (dk_at dksX13_deed_7 12 rfl rfl)
theorem dX13_deed_201 : decode cX13_deed 201 = .ok (.getfield 19, 3) := dk_180 0 19 (dk_at dksX13_deed_7 13 rfl rfl)
theorem dX13_deed_204 : decode cX13_deed 204 = .ok (.invokevirtual 50, 3) := dk_182 0 50 (dk_at dksX13_deed_7 16 rfl rfl)
theorem dX13_deed_207 : decode cX13_deed 207 = .ok (.ifCond .eq 7, 3) := dk_153 0 7 (dk_at dksX13_deed_7 19 rfl rfl)
theorem dX13_deed_210 : decode cX13_deed 210 = .ok (.iconst 1, 1) := dk_4 (dk_at dksX13_deed_7 22 rfl rfl)
theorem dX13_deed_211 : decode cX13_deed 211 = .ok (.goto 4, 3) := dk_167 0 4 (dk_at dksX13_deed_8 0 rfl rfl)
theorem dX13_deed_214 : decode cX13_deed 214 = .ok (.iconst 0, 1) := dk_3 (dk_at dksX13_deed_8 3 rfl rfl)
theorem dX13_deed_215 : decode cX13_deed 215 = .ok (.invokestatic 53, 3) := dk_184 0 53 (dk_at dksX13_deed_8 4 rfl rfl)
theorem dX13_deed_218 : decode cX13_deed 218 = .ok (.aload_n 0, 1) := dk_42 (dk_at dksX13_deed_8 7 rfl rfl)
theorem dX13_deed_219 : decode cX13_deed 219 = .ok (.invokedynamic 57, 5) := by decide +kernel
theorem dX13_deed_224 : decode cX13_deed 224 = .ok (.areturn, 1) := dk_176 (dk_at dksX13_deed_8 13 rfl rfl)
theorem dX13_deed_225 : decode cX13_deed 225 = .ok (.aload_n 1, 1) := dk_43 (dk_at dksX13_deed_8 14 rfl rfl)
theorem dX13_deed_226 : decode cX13_deed 226 = .ok (.aload_n 0, 1) := dk_42 (dk_at dksX13_deed_8 15 rfl rfl)
theorem dX13_deed_227 : decode cX13_deed 227 = .ok (.getfield 15, 3) := dk_180 0 15 (dk_at dksX13_deed_8 16 rfl rfl)
theorem dX13_deed_230 : decode cX13_deed 230 = .ok (.invokevirtual 44, 3) := dk_182 0 44 (dk_at dksX13_deed_8 19 rfl rfl)
theorem dX13_deed_233 : decode cX13_deed 233 = .ok (.invokestatic 53, 3) := dk_184 0 53 (dk_at dksX13_deed_9 0 rfl rfl)
theorem dX13_deed_236 : decode cX13_deed 236 = .ok (.aload_n 0, 1) := dk_42 (dk_at dksX13_deed_9 3 rfl rfl)
theorem dX13_deed_237 : decode cX13_deed 237 = .ok (.invokedynamic 61, 5) := by decide +kernel
theorem dX13_deed_242 : decode cX13_deed 242 = .ok (.areturn, 1) := dk_176 (dk_at dksX13_deed_9 9 rfl rfl)
theorem dX13_deed_243 : decode cX13_deed 243 = .ok (.aload_n 1, 1) := dk_43 (dk_at dksX13_deed_9 10 rfl rfl)
theorem dX13_deed_244 : decode cX13_deed 244 = .ok (.aload_n 0, 1) := dk_42 (dk_at dksX13_deed_9 11 rfl rfl)
theorem dX13_deed_245 : decode cX13_deed 245 = .ok (.getfield 15, 3) := dk_180 0 15 (dk_at dksX13_deed_9 12 rfl rfl)
theorem dX13_deed_248 : decode cX13_deed 248 = .ok (.invokevirtual 44, 3) := dk_182 0 44 (dk_at dksX13_deed_9 15 rfl rfl)
theorem dX13_deed_251 : decode cX13_deed 251 = .ok (.ifCond .eq 15, 3) := dk_153 0 15 (dk_at dksX13_deed_9 18 rfl rfl)
theorem dX13_deed_254 : decode cX13_deed 254 = .ok (.aload_n 0, 1) := dk_42 (dk_at dksX13_deed_9 21 rfl rfl)
theorem dX13_deed_255 : decode cX13_deed 255 = .ok (.getfield 19, 3) := dk_180 0 19 (dk_at dksX13_deed_10 0 rfl rfl)
theorem dX13_deed_258 : decode cX13_deed 258 = .ok (.iconst 3, 1) := dk_6 (dk_at dksX13_deed_10 3 rfl rfl)
theorem dX13_deed_259 : decode cX13_deed 259 = .ok (.if_icmp .ge 7, 3) := dk_162 0 7 (dk_at dksX13_deed_10 4 rfl rfl)
theorem dX13_deed_262 : decode cX13_deed 262 = .ok (.iconst 1, 1) := dk_4 (dk_at dksX13_deed_10 7 rfl rfl)
theorem dX13_deed_263 : decode cX13_deed 263 = .ok (.goto 4, 3) := dk_167 0 4 (dk_at dksX13_deed_10 8 rfl rfl)
theorem dX13_deed_266 : decode cX13_deed 266 = .ok (.iconst 0, 1) := dk_3 (dk_at dksX13_deed_10 11 rfl rfl)
theorem dX13_deed_267 : decode cX13_deed 267 = .ok (.invokestatic 53, 3) := dk_184 0 53 (dk_at dksX13_deed_10 12 rfl rfl)
theorem dX13_deed_270 : decode cX13_deed 270 = .ok (.aload_n 0, 1) := dk_42 (dk_at dksX13_deed_10 15 rfl rfl)
theorem dX13_deed_271 : decode cX13_deed 271 = .ok (.invokedynamic 62, 5) := by decide +kernel
theorem dX13_deed_276 : decode cX13_deed 276 = .ok (.areturn, 1) := dk_176 (dk_at dksX13_deed_10 21 rfl rfl)
theorem dX13_deed_277 : decode cX13_deed 277 = .ok (.aload_n 1, 1) := dk_43 (dk_at dksX13_deed_10 22 rfl rfl)
theorem dX13_deed_278 : decode cX13_deed 278 = .ok (.aload_n 0, 1) := dk_42 (dk_at dksX13_deed_10 23 rfl rfl)
theorem dX13_deed_279 : decode cX13_deed 279 = .ok (.getfield 15, 3) := dk_180 0 15 (dk_at dksX13_deed_11 0 rfl rfl)
theorem dX13_deed_282 : decode cX13_deed 282 = .ok (.invokevirtual 63, 3) := dk_182 0 63 (dk_at dksX13_deed_11 3 rfl rfl)
theorem dX13_deed_285 : decode cX13_deed 285 = .ok (.ifCond .eq 18, 3) := dk_153 0 18 (dk_at dksX13_deed_11 6 rfl rfl)
theorem dX13_deed_288 : decode cX13_deed 288 = .ok (.aload_n 1, 1) := dk_43 (dk_at dksX13_deed_11 9 rfl rfl)
theorem dX13_deed_289 : decode cX13_deed 289 = .ok (.aload_n 0, 1) := dk_42 (dk_at dksX13_deed_11 10 rfl rfl)
theorem dX13_deed_290 : decode cX13_deed 290 = .ok (.getfield 19, 3) := dk_180 0 19 (dk_at dksX13_deed_11 11 rfl rfl)
theorem dX13_deed_293 : decode cX13_deed 293 = .ok (.invokevirtual 50, 3) := dk_182 0 50 (dk_at dksX13_deed_11 14 rfl rfl)
theorem dX13_deed_296 : decode cX13_deed 296 = .ok (.ifCond .eq 7, 3) := dk_153 0 7 (dk_at dksX13_deed_11 17 rfl rfl)
theorem dX13_deed_299 : decode cX13_deed 299 = .ok (.iconst 1, 1) := dk_4 (dk_at dksX13_deed_11 20 rfl rfl)
theorem dX13_deed_300 : decode cX13_deed 300 = .ok (.goto 4, 3) := dk_167 0 4 (dk_at dksX13_deed_11 21 rfl rfl)
theorem dX13_deed_303 : decode cX13_deed 303 = .ok (.iconst 0, 1) := dk_3 (dk_at dksX13_deed_12 0 rfl rfl)
theorem dX13_deed_304 : decode cX13_deed 304 = .ok (.invokestatic 53, 3) := dk_184 0 53 (dk_at dksX13_deed_12 1 rfl rfl)
theorem dX13_deed_307 : decode cX13_deed 307 = .ok (.aload_n 0, 1) := dk_42 (dk_at dksX13_deed_12 4 rfl rfl)
theorem dX13_deed_308 : decode cX13_deed 308 = .ok (.invokedynamic 66, 5) := by decide +kernel
theorem dX13_deed_313 : decode cX13_deed 313 = .ok (.areturn, 1) := dk_176 (dk_at dksX13_deed_12 10 rfl rfl)
theorem dX13_deed_314 : decode cX13_deed 314 = .ok (.aload_n 1, 1) := dk_43 (dk_at dksX13_deed_12 11 rfl rfl)
theorem dX13_deed_315 : decode cX13_deed 315 = .ok (.aload_n 0, 1) := dk_42 (dk_at dksX13_deed_12 12 rfl rfl)
theorem dX13_deed_316 : decode cX13_deed 316 = .ok (.getfield 15, 3) := dk_180 0 15 (dk_at dksX13_deed_12 13 rfl rfl)
theorem dX13_deed_319 : decode cX13_deed 319 = .ok (.invokevirtual 50, 3) := dk_182 0 50 (dk_at dksX13_deed_12 16 rfl rfl)
theorem dX13_deed_322 : decode cX13_deed 322 = .ok (.ifCond .eq 16, 3) := dk_153 0 16 (dk_at dksX13_deed_12 19 rfl rfl)
theorem dX13_deed_325 : decode cX13_deed 325 = .ok (.aload_n 0, 1) := dk_42 (dk_at dksX13_deed_12 22 rfl rfl)
theorem dX13_deed_326 : decode cX13_deed 326 = .ok (.getfield 19, 3) := dk_180 0 19 (dk_at dksX13_deed_13 0 rfl rfl)
theorem dX13_deed_329 : decode cX13_deed 329 = .ok (.bipush 8, 2) := dk_16 8 (dk_at dksX13_deed_13 3 rfl rfl)
theorem dX13_deed_331 : decode cX13_deed 331 = .ok (.if_icmp .ge 7, 3) := dk_162 0 7 (dk_at dksX13_deed_13 5 rfl rfl)
theorem dX13_deed_334 : decode cX13_deed 334 = .ok (.iconst 1, 1) := dk_4 (dk_at dksX13_deed_13 8 rfl rfl)
theorem dX13_deed_335 : decode cX13_deed 335 = .ok (.goto 4, 3) := dk_167 0 4 (dk_at dksX13_deed_13 9 rfl rfl)
theorem dX13_deed_338 : decode cX13_deed 338 = .ok (.iconst 0, 1) := dk_3 (dk_at dksX13_deed_13 12 rfl rfl)
theorem dX13_deed_339 : decode cX13_deed 339 = .ok (.invokestatic 53, 3) := dk_184 0 53 (dk_at dksX13_deed_13 13 rfl rfl)
theorem dX13_deed_342 : decode cX13_deed 342 = .ok (.aload_n 0, 1) := dk_42 (dk_at dksX13_deed_13 16 rfl rfl)
theorem dX13_deed_343 : decode cX13_deed 343 = .ok (.invokedynamic 67, 5) := by decide +kernel
theorem dX13_deed_348 : decode cX13_deed 348 = .ok (.areturn, 1) := dk_176 (dk_at dksX13_deed_13 22 rfl rfl)
theorem dX13_deed_349 : decode cX13_deed 349 = .ok (.aload_n 1, 1) := dk_43 (dk_at dksX13_deed_13 23 rfl rfl)
theorem dX13_deed_350 : decode cX13_deed 350 = .ok (.aload_n 0, 1) := dk_42 (dk_at dksX13_deed_14 0 rfl rfl)
theorem dX13_deed_351 : decode cX13_deed 351 = .ok (.getfield 15, 3) := dk_180 0 15 (dk_at dksX13_deed_14 1 rfl rfl)
theorem dX13_deed_354 : decode cX13_deed 354 = .ok (.invokevirtual 50, 3) := dk_182 0 50 (dk_at dksX13_deed_14 4 rfl rfl)
theorem dX13_deed_357 : decode cX13_deed 357 = .ok (.invokestatic 53, 3) := dk_184 0 53 (dk_at dksX13_deed_14 7 rfl rfl)
theorem dX13_deed_360 : decode cX13_deed 360 = .ok (.aload_n 0, 1) := dk_42 (dk_at dksX13_deed_14 10 rfl rfl)
theorem dX13_deed_361 : decode cX13_deed 361 = .ok (.invokedynamic 68, 5) := by decide +kernel
theorem dX13_deed_366 : decode cX13_deed 366 = .ok (.areturn, 1) := dk_176 (dk_at dksX13_deed_14 16 rfl rfl)
theorem dX13_deed_367 : decode cX13_deed 367 = .ok (.aload_n 0, 1) := dk_42 (dk_at dksX13_deed_14 17 rfl rfl)
theorem dX13_deed_368 : decode cX13_deed 368 = .ok (.getfield 15, 3) := dk_180 0 15 (dk_at dksX13_deed_14 18 rfl rfl)
theorem dX13_deed_371 : decode cX13_deed 371 = .ok (.iconst 1, 1) := dk_4 (dk_at dksX13_deed_14 21 rfl rfl)
theorem dX13_deed_372 : decode cX13_deed 372 = .ok (.bipush 60, 2) := dk_16 60 (dk_at dksX13_deed_14 22 rfl rfl)
theorem dX13_deed_374 : decode cX13_deed 374 = .ok (.invokestatic 69, 3) := dk_184 0 69 (dk_at dksX13_deed_15 0 rfl rfl)
theorem dX13_deed_377 : decode cX13_deed 377 = .ok (.invokestatic 53, 3) := dk_184 0 53 (dk_at dksX13_deed_15 3 rfl rfl)
theorem dX13_deed_380 : decode cX13_deed 380 = .ok (.aload_n 0, 1) := dk_42 (dk_at dksX13_deed_15 6 rfl rfl)
theorem dX13_deed_381 : decode cX13_deed 381 = .ok (.invokedynamic 73, 5) := by decide +kernel
theorem dX13_deed_386 : decode cX13_deed 386 = .ok (.areturn, 1) := dk_176 (dk_at dksX13_deed_15 12 rfl rfl)
abbrev cX13_lambda_deed_0 : ByteArray := prog_3_method_10_code
def yX13_lambda_deed_0 : MethodName := ⟨RX13, "lambda$deed$0", "(LJumpHall$Hall;)I"⟩
def dkwX13_lambda_deed_0_0 : List UInt8 := [43, 42, 180, 0, 15, 42, 180, 0, 19, 182, 0, 110, 172]
abbrev dktX13_lambda_deed_0_0 : List UInt8 := dkwX13_lambda_deed_0_0 ++ []
theorem dksX13_lambda_deed_0_0 : cX13_lambda_deed_0.data.toList.drop 0 = dktX13_lambda_deed_0_0 := by decide +kernel
theorem dX13_lambda_deed_0_0 : decode cX13_lambda_deed_0 0 = .ok (.aload_n 1, 1) := dk_43 (dk_at dksX13_lambda_deed_0_0 0 rfl rfl)
theorem dX13_lambda_deed_0_1 : decode cX13_lambda_deed_0 1 = .ok (.aload_n 0, 1) := dk_42 (dk_at dksX13_lambda_deed_0_0 1 rfl rfl)
theorem dX13_lambda_deed_0_2 : decode cX13_lambda_deed_0 2 = .ok (.getfield 15, 3) := dk_180 0 15 (dk_at dksX13_lambda_deed_0_0 2 rfl rfl)
theorem dX13_lambda_deed_0_5 : decode cX13_lambda_deed_0 5 = .ok (.aload_n 0, 1) := dk_42 (dk_at dksX13_lambda_deed_0_0 5 rfl rfl)
theorem dX13_lambda_deed_0_6 : decode cX13_lambda_deed_0 6 = .ok (.getfield 19, 3) := dk_180 0 19 (dk_at dksX13_lambda_deed_0_0 6 rfl rfl)
theorem dX13_lambda_deed_0_9 : decode cX13_lambda_deed_0 9 = .ok (.invokevirtual 110, 3) := dk_182 0 110 (dk_at dksX13_lambda_deed_0_0 9 rfl rfl)
theorem dX13_lambda_deed_0_12 : decode cX13_lambda_deed_0 12 = .ok (.ireturn, 1) := dk_172 (dk_at dksX13_lambda_deed_0_0 12 rfl rfl)
abbrev cX13_lambda_deed_1 : ByteArray := prog_3_method_9_code
def yX13_lambda_deed_1 : MethodName := ⟨RX13, "lambda$deed$1", "(LJumpHall$Hall;)I"⟩
def dkwX13_lambda_deed_1_0 : List UInt8 := [43, 42, 180, 0, 15, 182, 0, 108, 172]
abbrev dktX13_lambda_deed_1_0 : List UInt8 := dkwX13_lambda_deed_1_0 ++ []
theorem dksX13_lambda_deed_1_0 : cX13_lambda_deed_1.data.toList.drop 0 = dktX13_lambda_deed_1_0 := by decide +kernel
theorem dX13_lambda_deed_1_0 : decode cX13_lambda_deed_1 0 = .ok (.aload_n 1, 1) := dk_43 (dk_at dksX13_lambda_deed_1_0 0 rfl rfl)
theorem dX13_lambda_deed_1_1 : decode cX13_lambda_deed_1 1 = .ok (.aload_n 0, 1) := dk_42 (dk_at dksX13_lambda_deed_1_0 1 rfl rfl)
theorem dX13_lambda_deed_1_2 : decode cX13_lambda_deed_1 2 = .ok (.getfield 15, 3) := dk_180 0 15 (dk_at dksX13_lambda_deed_1_0 2 rfl rfl)
theorem dX13_lambda_deed_1_5 : decode cX13_lambda_deed_1 5 = .ok (.invokevirtual 108, 3) := dk_182 0 108 (dk_at dksX13_lambda_deed_1_0 5 rfl rfl)
theorem dX13_lambda_deed_1_8 : decode cX13_lambda_deed_1 8 = .ok (.ireturn, 1) := dk_172 (dk_at dksX13_lambda_deed_1_0 8 rfl rfl)
abbrev cX13_lambda_deed_2 : ByteArray := prog_3_method_8_code
def yX13_lambda_deed_2 : MethodName := ⟨RX13, "lambda$deed$2", "(LJumpHall$Hall;)I"⟩
def dkwX13_lambda_deed_2_0 : List UInt8 := [43, 42, 180, 0, 15, 42, 180, 0, 19, 182, 0, 106, 172]
abbrev dktX13_lambda_deed_2_0 : List UInt8 := dkwX13_lambda_deed_2_0 ++ []
theorem dksX13_lambda_deed_2_0 : cX13_lambda_deed_2.data.toList.drop 0 = dktX13_lambda_deed_2_0 := by decide +kernel
theorem dX13_lambda_deed_2_0 : decode cX13_lambda_deed_2 0 = .ok (.aload_n 1, 1) := dk_43 (dk_at dksX13_lambda_deed_2_0 0 rfl rfl)
theorem dX13_lambda_deed_2_1 : decode cX13_lambda_deed_2 1 = .ok (.aload_n 0, 1) := dk_42 (dk_at dksX13_lambda_deed_2_0 1 rfl rfl)
theorem dX13_lambda_deed_2_2 : decode cX13_lambda_deed_2 2 = .ok (.getfield 15, 3) := dk_180 0 15 (dk_at dksX13_lambda_deed_2_0 2 rfl rfl)
theorem dX13_lambda_deed_2_5 : decode cX13_lambda_deed_2 5 = .ok (.aload_n 0, 1) := dk_42 (dk_at dksX13_lambda_deed_2_0 5 rfl rfl)
theorem dX13_lambda_deed_2_6 : decode cX13_lambda_deed_2 6 = .ok (.getfield 19, 3) := dk_180 0 19 (dk_at dksX13_lambda_deed_2_0 6 rfl rfl)
theorem dX13_lambda_deed_2_9 : decode cX13_lambda_deed_2 9 = .ok (.invokevirtual 106, 3) := dk_182 0 106 (dk_at dksX13_lambda_deed_2_0 9 rfl rfl)
theorem dX13_lambda_deed_2_12 : decode cX13_lambda_deed_2 12 = .ok (.ireturn, 1) := dk_172 (dk_at dksX13_lambda_deed_2_0 12 rfl rfl)
abbrev cX13_lambda_deed_3 : ByteArray := prog_3_method_7_code
def yX13_lambda_deed_3 : MethodName := ⟨RX13, "lambda$deed$3", "(LJumpHall$Hall;)I"⟩
def dkwX13_lambda_deed_3_0 : List UInt8 := [43, 42, 180, 0, 15, 42, 180, 0, 19, 182, 0, 103, 172]
abbrev dktX13_lambda_deed_3_0 : List UInt8 := dkwX13_lambda_deed_3_0 ++ []
theorem dksX13_lambda_deed_3_0 : cX13_lambda_deed_3.data.toList.drop 0 = dktX13_lambda_deed_3_0 := by decide +kernel
theorem dX13_lambda_deed_3_0 : decode cX13_lambda_deed_3 0 = .ok (.aload_n 1, 1) := dk_43 (dk_at dksX13_lambda_deed_3_0 0 rfl rfl)
theorem dX13_lambda_deed_3_1 : decode cX13_lambda_deed_3 1 = .ok (.aload_n 0, 1) := dk_42 (dk_at dksX13_lambda_deed_3_0 1 rfl rfl)
theorem dX13_lambda_deed_3_2 : decode cX13_lambda_deed_3 2 = .ok (.getfield 15, 3) := dk_180 0 15 (dk_at dksX13_lambda_deed_3_0 2 rfl rfl)
theorem dX13_lambda_deed_3_5 : decode cX13_lambda_deed_3 5 = .ok (.aload_n 0, 1) := dk_42 (dk_at dksX13_lambda_deed_3_0 5 rfl rfl)
theorem dX13_lambda_deed_3_6 : decode cX13_lambda_deed_3 6 = .ok (.getfield 19, 3) := dk_180 0 19 (dk_at dksX13_lambda_deed_3_0 6 rfl rfl)
theorem dX13_lambda_deed_3_9 : decode cX13_lambda_deed_3 9 = .ok (.invokevirtual 103, 3) := dk_182 0 103 (dk_at dksX13_lambda_deed_3_0 9 rfl rfl)
theorem dX13_lambda_deed_3_12 : decode cX13_lambda_deed_3 12 = .ok (.ireturn, 1) := dk_172 (dk_at dksX13_lambda_deed_3_0 12 rfl rfl)
abbrev cX13_lambda_deed_4 : ByteArray := prog_3_method_6_code
def yX13_lambda_deed_4 : MethodName := ⟨RX13, "lambda$deed$4", "(LJumpHall$Hall;)I"⟩
def dkwX13_lambda_deed_4_0 : List UInt8 := [43, 42, 180, 0, 15, 42, 180, 0, 19, 182, 0, 100, 172]
abbrev dktX13_lambda_deed_4_0 : List UInt8 := dkwX13_lambda_deed_4_0 ++ []
theorem dksX13_lambda_deed_4_0 : cX13_lambda_deed_4.data.toList.drop 0 = dktX13_lambda_deed_4_0 := by decide +kernel
theorem dX13_lambda_deed_4_0 : decode cX13_lambda_deed_4 0 = .ok (.aload_n 1, 1) := dk_43 (dk_at dksX13_lambda_deed_4_0 0 rfl rfl)
theorem dX13_lambda_deed_4_1 : decode cX13_lambda_deed_4 1 = .ok (.aload_n 0, 1) := dk_42 (dk_at dksX13_lambda_deed_4_0 1 rfl rfl)
theorem dX13_lambda_deed_4_2 : decode cX13_lambda_deed_4 2 = .ok (.getfield 15, 3) := dk_180 0 15 (dk_at dksX13_lambda_deed_4_0 2 rfl rfl)
theorem dX13_lambda_deed_4_5 : decode cX13_lambda_deed_4 5 = .ok (.aload_n 0, 1) := dk_42 (dk_at dksX13_lambda_deed_4_0 5 rfl rfl)
theorem dX13_lambda_deed_4_6 : decode cX13_lambda_deed_4 6 = .ok (.getfield 19, 3) := dk_180 0 19 (dk_at dksX13_lambda_deed_4_0 6 rfl rfl)
theorem dX13_lambda_deed_4_9 : decode cX13_lambda_deed_4 9 = .ok (.invokevirtual 100, 3) := dk_182 0 100 (dk_at dksX13_lambda_deed_4_0 9 rfl rfl)
theorem dX13_lambda_deed_4_12 : decode cX13_lambda_deed_4 12 = .ok (.ireturn, 1) := dk_172 (dk_at dksX13_lambda_deed_4_0 12 rfl rfl)
abbrev cX13_lambda_deed_5 : ByteArray := prog_3_method_5_code
def yX13_lambda_deed_5 : MethodName := ⟨RX13, "lambda$deed$5", "(LJumpHall$Hall;)I"⟩
def dkwX13_lambda_deed_5_0 : List UInt8 := [43, 42, 180, 0, 15, 182, 0, 98, 172]
abbrev dktX13_lambda_deed_5_0 : List UInt8 := dkwX13_lambda_deed_5_0 ++ []
theorem dksX13_lambda_deed_5_0 : cX13_lambda_deed_5.data.toList.drop 0 = dktX13_lambda_deed_5_0 := by decide +kernel
theorem dX13_lambda_deed_5_0 : decode cX13_lambda_deed_5 0 = .ok (.aload_n 1, 1) := dk_43 (dk_at dksX13_lambda_deed_5_0 0 rfl rfl)
theorem dX13_lambda_deed_5_1 : decode cX13_lambda_deed_5 1 = .ok (.aload_n 0, 1) := dk_42 (dk_at dksX13_lambda_deed_5_0 1 rfl rfl)
theorem dX13_lambda_deed_5_2 : decode cX13_lambda_deed_5 2 = .ok (.getfield 15, 3) := dk_180 0 15 (dk_at dksX13_lambda_deed_5_0 2 rfl rfl)
theorem dX13_lambda_deed_5_5 : decode cX13_lambda_deed_5 5 = .ok (.invokevirtual 98, 3) := dk_182 0 98 (dk_at dksX13_lambda_deed_5_0 5 rfl rfl)
theorem dX13_lambda_deed_5_8 : decode cX13_lambda_deed_5 8 = .ok (.ireturn, 1) := dk_172 (dk_at dksX13_lambda_deed_5_0 8 rfl rfl)
abbrev cX13_lambda_deed_6 : ByteArray := prog_3_method_4_code
def yX13_lambda_deed_6 : MethodName := ⟨RX13, "lambda$deed$6", "(LJumpHall$Hall;)I"⟩
def dkwX13_lambda_deed_6_0 : List UInt8 := [43, 42, 180, 0, 15, 182, 0, 94, 172]
abbrev dktX13_lambda_deed_6_0 : List UInt8 := dkwX13_lambda_deed_6_0 ++ []
theorem dksX13_lambda_deed_6_0 : cX13_lambda_deed_6.data.toList.drop 0 = dktX13_lambda_deed_6_0 := by decide +kernel
theorem dX13_lambda_deed_6_0 : decode cX13_lambda_deed_6 0 = .ok (.aload_n 1, 1) := dk_43 (dk_at dksX13_lambda_deed_6_0 0 rfl rfl)
theorem dX13_lambda_deed_6_1 : decode cX13_lambda_deed_6 1 = .ok (.aload_n 0, 1) := dk_42 (dk_at dksX13_lambda_deed_6_0 1 rfl rfl)
theorem dX13_lambda_deed_6_2 : decode cX13_lambda_deed_6 2 = .ok (.getfield 15, 3) := dk_180 0 15 (dk_at dksX13_lambda_deed_6_0 2 rfl rfl)
theorem dX13_lambda_deed_6_5 : decode cX13_lambda_deed_6 5 = .ok (.invokevirtual 94, 3) := dk_182 0 94 (dk_at dksX13_lambda_deed_6_0 5 rfl rfl)
theorem dX13_lambda_deed_6_8 : decode cX13_lambda_deed_6 8 = .ok (.ireturn, 1) := dk_172 (dk_at dksX13_lambda_deed_6_0 8 rfl rfl)
theorem q136 : (Jvm.Cond.initialized "JumpHall$Command") ∈ lw_all := lw_g (lw_at lw_m1 63 rfl) rfl
theorem q2867 : (Jvm.Cond.instantiable "JumpHall$Command" (3 : Nat)) ∈ lw_all := lw_g (lw_at lw_m12 154 rfl) rfl
theorem q2869 : (Jvm.Cond.instanceMethod ({ cls := "JumpHall$Command", name := "<init>", desc := "(Ljava/lang/String;II)V" } : Jvm.MethodName)) ∈ lw_all := lw_g (lw_at lw_m12 156 rfl) rfl
theorem q2870 : (Jvm.Cond.code ({ cls := "JumpHall$Command", name := "<init>", desc := "(Ljava/lang/String;II)V" } : Jvm.MethodName) prog_3_method_1_code (4 : Nat) (Option.none : Option Jvm.ClassFile.FieldType)) ∈ lw_all := lw_g (lw_at lw_m12 157 rfl) rfl
theorem q2871 : (Jvm.Cond.methodLink "JumpHall$Command" (3 : Nat) ({ cls := "java/lang/Object", name := "<init>", desc := "()V" } : Jvm.MethodName)) ∈ lw_all := lw_g (lw_at lw_m12 158 rfl) rfl
theorem q2872 : (Jvm.Cond.fieldLink "JumpHall$Command" (9 : Nat) "JumpHall$Command" "word" "Ljava/lang/String;") ∈ lw_all := lw_g (lw_at lw_m12 159 rfl) rfl
theorem q2873 : (Jvm.Cond.fieldLink "JumpHall$Command" (15 : Nat) "JumpHall$Command" "first" "I") ∈ lw_all := lw_g (lw_at lw_m12 160 rfl) rfl
theorem q2874 : (Jvm.Cond.fieldLink "JumpHall$Command" (19 : Nat) "JumpHall$Command" "second" "I") ∈ lw_all := lw_g (lw_at lw_m12 161 rfl) rfl
theorem q2892 : (Jvm.Cond.instanceMethod ({ cls := "JumpHall$Command", name := "on", desc := "(LJumpHall$Hall;I)V" } : Jvm.MethodName)) ∈ lw_all := lw_g (lw_at lw_m12 179 rfl) rfl
theorem q2893 : (Jvm.Cond.selects "JumpHall$Command" ({ cls := "JumpHall$Command", name := "on", desc := "(LJumpHall$Hall;I)V" } : Jvm.MethodName) ({ cls := "JumpHall$Command", name := "on", desc := "(LJumpHall$Hall;I)V" } : Jvm.MethodName)) ∈ lw_all := lw_g (lw_at lw_m12 180 rfl) rfl
theorem q2894 : (Jvm.Cond.codeWith ({ cls := "JumpHall$Command", name := "on", desc := "(LJumpHall$Hall;I)V" } : Jvm.MethodName) prog_3_method_3_code (4 : Nat) (Option.none : Option Jvm.ClassFile.FieldType) [((0 : Nat), (12 : Nat), (15 : Nat), (83 : Nat)), ((0 : Nat), (12 : Nat), (15 : Nat), (85 : Nat))]) ∈ lw_all := lw_g (lw_at lw_m12 181 rfl) rfl
theorem q2895 : (Jvm.Cond.classLink "JumpHall$Command" (83 : Nat) "JumpHall$Refusal") ∈ lw_all := lw_g (lw_at lw_m12 182 rfl) rfl
theorem q2896 : (Jvm.Cond.classLink "JumpHall$Command" (85 : Nat) "JumpHall$NotThere") ∈ lw_all := lw_g (lw_at lw_m12 183 rfl) rfl
theorem q2897 : (Jvm.Cond.methodLink "JumpHall$Command" (74 : Nat) ({ cls := "JumpHall$Command", name := "deed", desc := "(LJumpHall$Hall;)LJumpHall$Deed;" } : Jvm.MethodName)) ∈ lw_all := lw_g (lw_at lw_m12 184 rfl) rfl
theorem q2899 : (Jvm.Cond.instanceMethod ({ cls := "JumpHall$Command", name := "deed", desc := "(LJumpHall$Hall;)LJumpHall$Deed;" } : Jvm.MethodName)) ∈ lw_all := lw_g (lw_at lw_m12 186 rfl) rfl
theorem q2900 : (Jvm.Cond.code ({ cls := "JumpHall$Command", name := "deed", desc := "(LJumpHall$Hall;)LJumpHall$Deed;" } : Jvm.MethodName) prog_3_method_2_code (4 : Nat) (Option.some (Jvm.ClassFile.FieldType.object "JumpHall$Deed"))) ∈ lw_all := lw_g (lw_at lw_m12 187 rfl) rfl
theorem q2901 : (Jvm.Cond.methodLink "JumpHall$Command" (22 : Nat) ({ cls := "java/lang/String", name := "hashCode", desc := "()I" } : Jvm.MethodName)) ∈ lw_all := lw_g (lw_at lw_m12 188 rfl) rfl
theorem q2903 : (Jvm.Cond.methodLink "JumpHall$Command" (30 : Nat) ({ cls := "java/lang/String", name := "equals", desc := "(Ljava/lang/Object;)Z" } : Jvm.MethodName)) ∈ lw_all := lw_g (lw_at lw_m12 190 rfl) rfl
theorem q2909 : (Jvm.Cond.methodLink "JumpHall$Command" (44 : Nat) ({ cls := "JumpHall$Hall", name := "isJumper", desc := "(I)Z" } : Jvm.MethodName)) ∈ lw_all := lw_g (lw_at lw_m12 196 rfl) rfl
theorem q2910 : (Jvm.Cond.methodLink "JumpHall$Command" (50 : Nat) ({ cls := "JumpHall$Hall", name := "isMat", desc := "(I)Z" } : Jvm.MethodName)) ∈ lw_all := lw_g (lw_at lw_m12 197 rfl) rfl
theorem q2911 : (Jvm.Cond.methodLinkNest "JumpHall$Command" (53 : Nat) ({ cls := "JumpHall", name := "need", desc := "(Z)V" } : Jvm.MethodName) "JumpHall") ∈ lw_tbl := lw_at lw_m12 198 rfl
theorem q2931 : (Jvm.Cond.privateMethod ({ cls := "JumpHall$Command", name := "lambda$deed$0", desc := "(LJumpHall$Hall;)I" } : Jvm.MethodName)) ∈ lw_tbl := lw_at lw_m12 218 rfl
theorem q2932 : (Jvm.Cond.instanceMethod ({ cls := "JumpHall$Command", name := "lambda$deed$0", desc := "(LJumpHall$Hall;)I" } : Jvm.MethodName)) ∈ lw_all := lw_g (lw_at lw_m12 219 rfl) rfl
theorem q2933 : (Jvm.Cond.code ({ cls := "JumpHall$Command", name := "lambda$deed$0", desc := "(LJumpHall$Hall;)I" } : Jvm.MethodName) prog_3_method_10_code (2 : Nat) (Option.some Jvm.ClassFile.FieldType.int)) ∈ lw_all := lw_g (lw_at lw_m12 220 rfl) rfl
theorem q2934 : (Jvm.Cond.methodLink "JumpHall$Command" (110 : Nat) ({ cls := "JumpHall$Hall", name := "up", desc := "(II)I" } : Jvm.MethodName)) ∈ lw_all := lw_g (lw_at lw_m12 221 rfl) rfl
theorem q2935 : (Jvm.Cond.privateMethod ({ cls := "JumpHall$Command", name := "lambda$deed$1", desc := "(LJumpHall$Hall;)I" } : Jvm.MethodName)) ∈ lw_tbl := lw_at lw_m12 222 rfl
theorem q2936 : (Jvm.Cond.instanceMethod ({ cls := "JumpHall$Command", name := "lambda$deed$1", desc := "(LJumpHall$Hall;)I" } : Jvm.MethodName)) ∈ lw_all := lw_g (lw_at lw_m12 223 rfl) rfl
theorem q2937 : (Jvm.Cond.code ({ cls := "JumpHall$Command", name := "lambda$deed$1", desc := "(LJumpHall$Hall;)I" } : Jvm.MethodName) prog_3_method_9_code (2 : Nat) (Option.some Jvm.ClassFile.FieldType.int)) ∈ lw_all := lw_g (lw_at lw_m12 224 rfl) rfl
theorem q2938 : (Jvm.Cond.methodLink "JumpHall$Command" (108 : Nat) ({ cls := "JumpHall$Hall", name := "down", desc := "(I)I" } : Jvm.MethodName)) ∈ lw_all := lw_g (lw_at lw_m12 225 rfl) rfl
theorem q2939 : (Jvm.Cond.privateMethod ({ cls := "JumpHall$Command", name := "lambda$deed$2", desc := "(LJumpHall$Hall;)I" } : Jvm.MethodName)) ∈ lw_tbl := lw_at lw_m12 226 rfl
theorem q2940 : (Jvm.Cond.instanceMethod ({ cls := "JumpHall$Command", name := "lambda$deed$2", desc := "(LJumpHall$Hall;)I" } : Jvm.MethodName)) ∈ lw_all := lw_g (lw_at lw_m12 227 rfl) rfl
theorem q2941 : (Jvm.Cond.code ({ cls := "JumpHall$Command", name := "lambda$deed$2", desc := "(LJumpHall$Hall;)I" } : Jvm.MethodName) prog_3_method_8_code (2 : Nat) (Option.some Jvm.ClassFile.FieldType.int)) ∈ lw_all := lw_g (lw_at lw_m12 228 rfl) rfl
theorem q2942 : (Jvm.Cond.methodLink "JumpHall$Command" (106 : Nat) ({ cls := "JumpHall$Hall", name := "sell", desc := "(II)I" } : Jvm.MethodName)) ∈ lw_all := lw_g (lw_at lw_m12 229 rfl) rfl
theorem q2943 : (Jvm.Cond.methodLink "JumpHall$Command" (63 : Nat) ({ cls := "JumpHall$Hall", name := "isGuard", desc := "(I)Z" } : Jvm.MethodName)) ∈ lw_all := lw_g (lw_at lw_m12 230 rfl) rfl
theorem q2944 : (Jvm.Cond.privateMethod ({ cls := "JumpHall$Command", name := "lambda$deed$3", desc := "(LJumpHall$Hall;)I" } : Jvm.MethodName)) ∈ lw_tbl := lw_at lw_m12 231 rfl
theorem q2945 : (Jvm.Cond.instanceMethod ({ cls := "JumpHall$Command", name := "lambda$deed$3", desc := "(LJumpHall$Hall;)I" } : Jvm.MethodName)) ∈ lw_all := lw_g (lw_at lw_m12 232 rfl) rfl
theorem q2946 : (Jvm.Cond.code ({ cls := "JumpHall$Command", name := "lambda$deed$3", desc := "(LJumpHall$Hall;)I" } : Jvm.MethodName) prog_3_method_7_code (2 : Nat) (Option.some Jvm.ClassFile.FieldType.int)) ∈ lw_all := lw_g (lw_at lw_m12 233 rfl) rfl
theorem q2947 : (Jvm.Cond.methodLink "JumpHall$Command" (103 : Nat) ({ cls := "JumpHall$Hall", name := "place", desc := "(II)I" } : Jvm.MethodName)) ∈ lw_all := lw_g (lw_at lw_m12 234 rfl) rfl
theorem q2948 : (Jvm.Cond.privateMethod ({ cls := "JumpHall$Command", name := "lambda$deed$4", desc := "(LJumpHall$Hall;)I" } : Jvm.MethodName)) ∈ lw_tbl := lw_at lw_m12 235 rfl
theorem q2949 : (Jvm.Cond.instanceMethod ({ cls := "JumpHall$Command", name := "lambda$deed$4", desc := "(LJumpHall$Hall;)I" } : Jvm.MethodName)) ∈ lw_all := lw_g (lw_at lw_m12 236 rfl) rfl
theorem q2950 : (Jvm.Cond.code ({ cls := "JumpHall$Command", name := "lambda$deed$4", desc := "(LJumpHall$Hall;)I" } : Jvm.MethodName) prog_3_method_6_code (2 : Nat) (Option.some Jvm.ClassFile.FieldType.int)) ∈ lw_all := lw_g (lw_at lw_m12 237 rfl) rfl
theorem q2951 : (Jvm.Cond.methodLink "JumpHall$Command" (100 : Nat) ({ cls := "JumpHall$Hall", name := "fix", desc := "(II)I" } : Jvm.MethodName)) ∈ lw_all := lw_g (lw_at lw_m12 238 rfl) rfl
theorem q2952 : (Jvm.Cond.privateMethod ({ cls := "JumpHall$Command", name := "lambda$deed$5", desc := "(LJumpHall$Hall;)I" } : Jvm.MethodName)) ∈ lw_tbl := lw_at lw_m12 239 rfl
theorem q2953 : (Jvm.Cond.instanceMethod ({ cls := "JumpHall$Command", name := "lambda$deed$5", desc := "(LJumpHall$Hall;)I" } : Jvm.MethodName)) ∈ lw_all := lw_g (lw_at lw_m13 0 rfl) rfl
theorem q2954 : (Jvm.Cond.code ({ cls := "JumpHall$Command", name := "lambda$deed$5", desc := "(LJumpHall$Hall;)I" } : Jvm.MethodName) prog_3_method_5_code (2 : Nat) (Option.some Jvm.ClassFile.FieldType.int)) ∈ lw_all := lw_g (lw_at lw_m13 1 rfl) rfl
theorem q2955 : (Jvm.Cond.methodLink "JumpHall$Command" (98 : Nat) ({ cls := "JumpHall$Hall", name := "open", desc := "(I)I" } : Jvm.MethodName)) ∈ lw_all := lw_g (lw_at lw_m13 2 rfl) rfl
theorem q2956 : (Jvm.Cond.methodLinkNest "JumpHall$Command" (69 : Nat) ({ cls := "JumpHall", name := "isIn", desc := "(III)Z" } : Jvm.MethodName) "JumpHall") ∈ lw_tbl := lw_at lw_m13 3 rfl
theorem q2957 : (Jvm.Cond.privateMethod ({ cls := "JumpHall$Command", name := "lambda$deed$6", desc := "(LJumpHall$Hall;)I" } : Jvm.MethodName)) ∈ lw_tbl := lw_at lw_m13 4 rfl
theorem q2958 : (Jvm.Cond.instanceMethod ({ cls := "JumpHall$Command", name := "lambda$deed$6", desc := "(LJumpHall$Hall;)I" } : Jvm.MethodName)) ∈ lw_all := lw_g (lw_at lw_m13 5 rfl) rfl
theorem q2959 : (Jvm.Cond.code ({ cls := "JumpHall$Command", name := "lambda$deed$6", desc := "(LJumpHall$Hall;)I" } : Jvm.MethodName) prog_3_method_4_code (2 : Nat) (Option.some Jvm.ClassFile.FieldType.int)) ∈ lw_all := lw_g (lw_at lw_m13 6 rfl) rfl
theorem q2960 : (Jvm.Cond.methodLink "JumpHall$Command" (94 : Nat) ({ cls := "JumpHall$Hall", name := "pass", desc := "(I)I" } : Jvm.MethodName)) ∈ lw_all := lw_g (lw_at lw_m13 7 rfl) rfl
theorem q2962 : (Jvm.Cond.methodLink "JumpHall$Command" (78 : Nat) ({ cls := "JumpHall$Deed", name := "in", desc := "(LJumpHall$Hall;)I" } : Jvm.MethodName)) ∈ lw_all := lw_g (lw_at lw_m13 9 rfl) rfl
theorem q2963 : (Jvm.Cond.methodLink "JumpHall$Command" (87 : Nat) ({ cls := "JumpHall$Refusal", name := "<init>", desc := "(II)V" } : Jvm.MethodName)) ∈ lw_all := lw_g (lw_at lw_m13 10 rfl) rfl
theorem q2964 : (Jvm.Cond.methodLink "JumpHall$Command" (90 : Nat) ({ cls := "JumpHall$Refusal", name := "behind", desc := "(LJumpHall$Hindrance;)LJumpHall$Refusal;" } : Jvm.MethodName)) ∈ lw_all := lw_g (lw_at lw_m13 11 rfl) rfl
theorem q3535 : (Jvm.Cond.castable "JumpHall$Command" "java/lang/Object") ∈ lw_tbl := lw_at lw_m15 102 rfl
/-! JumpHall$NotThere -/
def RX14 : String := "JumpHall$NotThere"
abbrev cX14_init : ByteArray := prog_9_method_1_code
def yX14_init : MethodName := ⟨RX14, "<init>", "()V"⟩
def dkwX14_init_0 : List UInt8 := [42, 16, 17, 3, 183, 0, 1, 177]
abbrev dktX14_init_0 : List UInt8 := dkwX14_init_0 ++ []
theorem dksX14_init_0 : cX14_init.data.toList.drop 0 = dktX14_init_0 := by decide +kernel
theorem dX14_init_0 : decode cX14_init 0 = .ok (.aload_n 0, 1) := dk_42 (dk_at dksX14_init_0 0 rfl rfl)
theorem dX14_init_1 : decode cX14_init 1 = .ok (.bipush 17, 2) := dk_16 17 (dk_at dksX14_init_0 1 rfl rfl)
theorem dX14_init_3 : decode cX14_init 3 = .ok (.iconst 0, 1) := dk_3 (dk_at dksX14_init_0 3 rfl rfl)
theorem dX14_init_4 : decode cX14_init 4 = .ok (.invokespecial 1, 3) := dk_183 0 1 (dk_at dksX14_init_0 4 rfl rfl)
theorem dX14_init_7 : decode cX14_init 7 = .ok (.return_, 1) := dk_177 (dk_at dksX14_init_0 7 rfl rfl)
theorem q137 : (Jvm.Cond.initialized "JumpHall$NotThere") ∈ lw_all := lw_g (lw_at lw_m1 64 rfl) rfl
theorem q436 : (Jvm.Cond.selects "JumpHall$NotThere" ({ cls := "java/lang/Throwable", name := "fillInStackTrace", desc := "()Ljava/lang/Throwable;" } : Jvm.MethodName) ({ cls := "java/lang/Throwable", name := "fillInStackTrace", desc := "()Ljava/lang/Throwable;" } : Jvm.MethodName)) ∈ lw_all := lw_g (lw_at lw_m2 123 rfl) rfl
theorem q2915 : (Jvm.Cond.instantiable "JumpHall$NotThere" (8 : Nat)) ∈ lw_all := lw_g (lw_at lw_m12 202 rfl) rfl
theorem q2924 : (Jvm.Cond.instanceMethod ({ cls := "JumpHall$NotThere", name := "<init>", desc := "()V" } : Jvm.MethodName)) ∈ lw_all := lw_g (lw_at lw_m12 211 rfl) rfl
theorem q2925 : (Jvm.Cond.code ({ cls := "JumpHall$NotThere", name := "<init>", desc := "()V" } : Jvm.MethodName) prog_9_method_1_code (1 : Nat) (Option.none : Option Jvm.ClassFile.FieldType)) ∈ lw_all := lw_g (lw_at lw_m12 212 rfl) rfl
theorem q2926 : (Jvm.Cond.methodLink "JumpHall$NotThere" (1 : Nat) ({ cls := "JumpHall$Hindrance", name := "<init>", desc := "(II)V" } : Jvm.MethodName)) ∈ lw_all := lw_g (lw_at lw_m12 213 rfl) rfl
theorem q2982 : (Jvm.Cond.selects "JumpHall$NotThere" ({ cls := "JumpHall$Hindrance", name := "at", desc := "(I)LJumpHall$Hindrance;" } : Jvm.MethodName) ({ cls := "JumpHall$Hindrance", name := "at", desc := "(I)LJumpHall$Hindrance;" } : Jvm.MethodName)) ∈ lw_all := lw_g (lw_at lw_m13 29 rfl) rfl
theorem q2989 : (Jvm.Cond.selects "JumpHall$NotThere" ({ cls := "java/lang/Throwable", name := "getCause", desc := "()Ljava/lang/Throwable;" } : Jvm.MethodName) ({ cls := "java/lang/Throwable", name := "getCause", desc := "()Ljava/lang/Throwable;" } : Jvm.MethodName)) ∈ lw_all := lw_g (lw_at lw_m13 36 rfl) rfl
theorem q3498 : (Jvm.Cond.castable "JumpHall$NotThere" "JumpHall$Hindrance") ∈ lw_tbl := lw_at lw_m15 65 rfl
theorem q3536 : (Jvm.Cond.castable "JumpHall$NotThere" "java/lang/Object") ∈ lw_tbl := lw_at lw_m15 103 rfl
/-! java/lang/Object -/
def RJ46 : String := "java/lang/Object"
theorem q144 : (Jvm.Cond.instanceMethod ({ cls := "java/lang/Object", name := "<init>", desc := "()V" } : Jvm.MethodName)) ∈ lw_all := lw_g (lw_at lw_m1 71 rfl) rfl
theorem q145 : (Jvm.Cond.code ({ cls := "java/lang/Object", name := "<init>", desc := "()V" } : Jvm.MethodName) object_method_1_code (1 : Nat) (Option.none : Option Jvm.ClassFile.FieldType)) ∈ lw_all := lw_g (lw_at lw_m1 72 rfl) rfl
theorem q852 : (Jvm.Cond.instanceMethod ({ cls := "java/lang/Object", name := "getClass", desc := "()Ljava/lang/Class;" } : Jvm.MethodName)) ∈ lw_all := lw_g (lw_at lw_m4 59 rfl) rfl
theorem q890 : (Jvm.Cond.native ({ cls := "java/lang/Object", name := "getClass", desc := "()Ljava/lang/Class;" } : Jvm.MethodName)) ∈ lw_all := lw_g (lw_at lw_m4 97 rfl) rfl
theorem q1490 : (Jvm.Cond.declares ({ cls := "java/lang/Object", name := "hashCode", desc := "()I" } : Jvm.MethodName)) ∈ lw_tbl := lw_at lw_m6 217 rfl
theorem q1493 : (Jvm.Cond.sameMethod "java/lang/Object" "java/lang/Object" "hashCode" "()I") ∈ lw_all := lw_g (lw_at lw_m6 220 rfl) rfl
theorem q1594 : (Jvm.Cond.declares ({ cls := "java/lang/Object", name := "equals", desc := "(Ljava/lang/Object;)Z" } : Jvm.MethodName)) ∈ lw_tbl := lw_at lw_m7 81 rfl
theorem q1597 : (Jvm.Cond.sameMethod "java/lang/Object" "java/lang/Object" "equals" "(Ljava/lang/Object;)Z") ∈ lw_all := lw_g (lw_at lw_m7 84 rfl) rfl
theorem q3541 : (Jvm.Cond.declares ({ cls := "java/lang/Object", name := "getClass", desc := "()Ljava/lang/Class;" } : Jvm.MethodName)) ∈ lw_tbl := lw_at lw_m15 108 rfl
theorem q3550 : (Jvm.Cond.instantiable "java/lang/Object" (0 : Nat)) ∈ lw_all := lw_g (lw_at lw_m15 117 rfl) rfl
theorem q307 : (Jvm.Cond.arrayClass Jvm.ClassFile.FieldType.char) ∈ lw_all := lw_g (lw_at lw_m1 234 rfl) rfl
theorem q308 : (Jvm.Cond.arrayClass Jvm.ClassFile.FieldType.byte) ∈ lw_all := lw_g (lw_at lw_m1 235 rfl) rfl
theorem q829 : (Jvm.Cond.arrayClass Jvm.ClassFile.FieldType.int) ∈ lw_all := lw_g (lw_at lw_m4 36 rfl) rfl
theorem q3469 : (Jvm.Cond.arrayClass Jvm.ClassFile.FieldType.long) ∈ lw_all := lw_g (lw_at lw_m15 36 rfl) rfl
theorem q3470 : (Jvm.Cond.arrayClass Jvm.ClassFile.FieldType.double) ∈ lw_all := lw_g (lw_at lw_m15 37 rfl) rfl
theorem q95 : (Jvm.Cond.initialized "java/lang/System") ∈ lw_all := lw_g (lw_at lw_m1 22 rfl) rfl
theorem q586 : (Jvm.Cond.static ({ cls := "java/lang/System", name := "arraycopy", desc := "(Ljava/lang/Object;ILjava/lang/Object;II)V" } : Jvm.MethodName)) ∈ lw_all := lw_g (lw_at lw_m3 33 rfl) rfl
theorem q587 : (Jvm.Cond.native ({ cls := "java/lang/System", name := "arraycopy", desc := "(Ljava/lang/Object;ILjava/lang/Object;II)V" } : Jvm.MethodName)) ∈ lw_all := lw_g (lw_at lw_m3 34 rfl) rfl
theorem q113 : (Jvm.Cond.initialized "java/lang/Double") ∈ lw_all := lw_g (lw_at lw_m1 40 rfl) rfl
theorem q1133 : (Jvm.Cond.static ({ cls := "java/lang/Double", name := "doubleToRawLongBits", desc := "(D)J" } : Jvm.MethodName)) ∈ lw_all := lw_g (lw_at lw_m5 100 rfl) rfl
theorem q1134 : (Jvm.Cond.native ({ cls := "java/lang/Double", name := "doubleToRawLongBits", desc := "(D)J" } : Jvm.MethodName)) ∈ lw_all := lw_g (lw_at lw_m5 101 rfl) rfl
theorem q1143 : (Jvm.Cond.static ({ cls := "java/lang/Double", name := "longBitsToDouble", desc := "(J)D" } : Jvm.MethodName)) ∈ lw_all := lw_g (lw_at lw_m5 110 rfl) rfl
theorem q1144 : (Jvm.Cond.native ({ cls := "java/lang/Double", name := "longBitsToDouble", desc := "(J)D" } : Jvm.MethodName)) ∈ lw_all := lw_g (lw_at lw_m5 111 rfl) rfl
theorem q369 : (Jvm.Cond.interfaceMethod "java/util/Iterator" "java/util/Iterator" "hasNext" "()Z") ∈ lw_tbl := lw_at lw_m2 56 rfl
theorem q370 : (Jvm.Cond.declares ({ cls := "java/util/Iterator", name := "hasNext", desc := "()Z" } : Jvm.MethodName)) ∈ lw_tbl := lw_at lw_m2 57 rfl
theorem q391 : (Jvm.Cond.interfaceMethod "java/util/Iterator" "java/util/Iterator" "next" "()Ljava/lang/Object;") ∈ lw_tbl := lw_at lw_m2 78 rfl
theorem q392 : (Jvm.Cond.declares ({ cls := "java/util/Iterator", name := "next", desc := "()Ljava/lang/Object;" } : Jvm.MethodName)) ∈ lw_tbl := lw_at lw_m2 79 rfl
theorem q996 : (Jvm.Cond.interfaceMethod "java/util/Collection" "java/util/Collection" "toArray" "()[Ljava/lang/Object;") ∈ lw_tbl := lw_at lw_m4 203 rfl
theorem q997 : (Jvm.Cond.declares ({ cls := "java/util/Collection", name := "toArray", desc := "()[Ljava/lang/Object;" } : Jvm.MethodName)) ∈ lw_tbl := lw_at lw_m4 204 rfl
theorem q1111 : (Jvm.Cond.interfaceMethod "java/util/Map" "java/util/Map" "size" "()I") ∈ lw_tbl := lw_at lw_m5 78 rfl
theorem q1112 : (Jvm.Cond.declares ({ cls := "java/util/Map", name := "size", desc := "()I" } : Jvm.MethodName)) ∈ lw_tbl := lw_at lw_m5 79 rfl
theorem q1430 : (Jvm.Cond.interfaceMethod "java/util/Map" "java/util/Map" "entrySet" "()Ljava/util/Set;") ∈ lw_tbl := lw_at lw_m6 157 rfl
theorem q1431 : (Jvm.Cond.declares ({ cls := "java/util/Map", name := "entrySet", desc := "()Ljava/util/Set;" } : Jvm.MethodName)) ∈ lw_tbl := lw_at lw_m6 158 rfl
theorem q1452 : (Jvm.Cond.interfaceMethod "java/util/Set" "java/util/Set" "iterator" "()Ljava/util/Iterator;") ∈ lw_tbl := lw_at lw_m6 179 rfl
theorem q1453 : (Jvm.Cond.declares ({ cls := "java/util/Set", name := "iterator", desc := "()Ljava/util/Iterator;" } : Jvm.MethodName)) ∈ lw_tbl := lw_at lw_m6 180 rfl
theorem q1465 : (Jvm.Cond.interfaceMethod "java/util/Map$Entry" "java/util/Map$Entry" "getKey" "()Ljava/lang/Object;") ∈ lw_tbl := lw_at lw_m6 192 rfl
theorem q1466 : (Jvm.Cond.declares ({ cls := "java/util/Map$Entry", name := "getKey", desc := "()Ljava/lang/Object;" } : Jvm.MethodName)) ∈ lw_tbl := lw_at lw_m6 193 rfl
theorem q1478 : (Jvm.Cond.interfaceMethod "java/util/Map$Entry" "java/util/Map$Entry" "getValue" "()Ljava/lang/Object;") ∈ lw_tbl := lw_at lw_m6 205 rfl
theorem q1479 : (Jvm.Cond.declares ({ cls := "java/util/Map$Entry", name := "getValue", desc := "()Ljava/lang/Object;" } : Jvm.MethodName)) ∈ lw_tbl := lw_at lw_m6 206 rfl
theorem q1757 : (Jvm.Cond.interfaceMethod "JumpHall$Deed" "JumpHall$Deed" "in" "(LJumpHall$Hall;)I") ∈ lw_tbl := lw_at lw_m8 4 rfl
theorem q1758 : (Jvm.Cond.declares ({ cls := "JumpHall$Deed", name := "in", desc := "(LJumpHall$Hall;)I" } : Jvm.MethodName)) ∈ lw_tbl := lw_at lw_m8 5 rfl
theorem q1841 : (Jvm.Cond.interfaceMethod "JumpHall$Test" "JumpHall$Test" "is" "(LJumpHall$Jumper;)Z") ∈ lw_tbl := lw_at lw_m8 88 rfl
theorem q1842 : (Jvm.Cond.declares ({ cls := "JumpHall$Test", name := "is", desc := "(LJumpHall$Jumper;)Z" } : Jvm.MethodName)) ∈ lw_tbl := lw_at lw_m8 89 rfl
theorem q3540 : (Jvm.Cond.selects "[Ljava/lang/Object;" ({ cls := "java/lang/Object", name := "getClass", desc := "()Ljava/lang/Class;" } : Jvm.MethodName) ({ cls := "java/lang/Object", name := "getClass", desc := "()Ljava/lang/Class;" } : Jvm.MethodName)) ∈ lw_all := lw_g (lw_at lw_m15 107 rfl) rfl
/-! the law's own entry -/
abbrev cL_law : ByteArray := code
def dkwL_law_98 : List UInt8 := [21, 7, 133, 148, 153, 0, 5, 3, 172, 167, 0, 3, 132, 5, 5, 167, 246, 139, 4, 172]
abbrev dktL_law_98 : List UInt8 := dkwL_law_98 ++ []
def dkwL_law_97 : List UInt8 := [182, 1, 19, 54, 7, 44, 182, 0, 153, 21, 6, 159, 0, 5, 3, 172, 21, 6, 154, 0, 15, 45, 3, 47]
abbrev dktL_law_97 : List UInt8 := dkwL_law_97 ++ dktL_law_98
def dkwL_law_96 : List UInt8 := [167, 0, 60, 43, 182, 1, 13, 44, 182, 1, 16, 159, 0, 49, 3, 172, 43, 45, 184, 1, 17, 54, 6, 44]
abbrev dktL_law_96 : List UInt8 := dkwL_law_96 ++ dktL_law_97
def dkwL_law_95 : List UInt8 := [159, 0, 5, 3, 172, 21, 6, 154, 0, 15, 45, 3, 47, 21, 7, 133, 148, 153, 0, 5, 3, 172]
abbrev dktL_law_95 : List UInt8 := dkwL_law_95 ++ dktL_law_96
def dkwL_law_94 : List UInt8 := [167, 0, 104, 43, 45, 184, 1, 10, 54, 6, 44, 182, 1, 12, 54, 7, 44, 182, 0, 153, 21, 6]
abbrev dktL_law_94 : List UInt8 := dkwL_law_94 ++ dktL_law_95
def dkwL_law_93 : List UInt8 := [159, 0, 5, 3, 172, 21, 6, 154, 0, 15, 45, 3, 47, 21, 7, 133, 148, 153, 0, 5, 3, 172]
abbrev dktL_law_93 : List UInt8 := dkwL_law_93 ++ dktL_law_94
def dkwL_law_92 : List UInt8 := [21, 5, 5, 96, 46, 153, 0, 7, 4, 167, 0, 4, 3, 182, 1, 9, 54, 7, 44, 182, 0, 153, 21, 6]
abbrev dktL_law_92 : List UInt8 := dkwL_law_92 ++ dktL_law_93
def dkwL_law_91 : List UInt8 := [46, 153, 0, 7, 4, 167, 0, 4, 3, 45, 184, 1, 6, 54, 6, 44, 42, 21, 5, 4, 96, 46, 42]
abbrev dktL_law_91 : List UInt8 := dkwL_law_91 ++ dktL_law_92
def dkwL_law_90 : List UInt8 := [21, 7, 133, 148, 153, 0, 5, 3, 172, 167, 0, 188, 43, 42, 21, 5, 4, 96, 46, 42, 21, 5, 5, 96]
abbrev dktL_law_90 : List UInt8 := dkwL_law_90 ++ dktL_law_91
def dkwL_law_89 : List UInt8 := [182, 1, 5, 54, 7, 44, 182, 0, 153, 21, 6, 159, 0, 5, 3, 172, 21, 6, 154, 0, 15, 45, 3, 47]
abbrev dktL_law_89 : List UInt8 := dkwL_law_89 ++ dktL_law_90
def dkwL_law_88 : List UInt8 := [45, 3, 47, 21, 7, 133, 148, 153, 0, 5, 3, 172, 167, 0, 232, 43, 45, 184, 1, 3, 54, 6, 44]
abbrev dktL_law_88 : List UInt8 := dkwL_law_88 ++ dktL_law_89
def dkwL_law_87 : List UInt8 := [54, 6, 44, 182, 1, 2, 54, 7, 44, 182, 0, 153, 21, 6, 159, 0, 5, 3, 172, 21, 6, 154, 0, 15]
abbrev dktL_law_87 : List UInt8 := dkwL_law_87 ++ dktL_law_88
def dkwL_law_86 : List UInt8 := [154, 0, 15, 45, 3, 47, 21, 7, 133, 148, 153, 0, 5, 3, 172, 167, 1, 20, 43, 45, 184, 1, 0]
abbrev dktL_law_86 : List UInt8 := dkwL_law_86 ++ dktL_law_87
def dkwL_law_85 : List UInt8 := [21, 5, 4, 96, 46, 146, 182, 0, 255, 54, 7, 44, 182, 0, 153, 21, 6, 159, 0, 5, 3, 172, 21, 6]
abbrev dktL_law_85 : List UInt8 := dkwL_law_85 ++ dktL_law_86
def dkwL_law_84 : List UInt8 := [153, 0, 5, 3, 172, 167, 1, 78, 43, 42, 21, 5, 4, 96, 46, 146, 45, 184, 0, 252, 54, 6, 44, 42]
abbrev dktL_law_84 : List UInt8 := dkwL_law_84 ++ dktL_law_85
def dkwL_law_83 : List UInt8 := [182, 0, 153, 21, 6, 159, 0, 5, 3, 172, 21, 6, 154, 0, 15, 45, 3, 47, 21, 7, 133, 148]
abbrev dktL_law_83 : List UInt8 := dkwL_law_83 ++ dktL_law_84
def dkwL_law_82 : List UInt8 := [21, 5, 4, 96, 46, 45, 184, 0, 249, 54, 6, 44, 42, 21, 5, 4, 96, 46, 182, 0, 251, 54, 7, 44]
abbrev dktL_law_82 : List UInt8 := dkwL_law_82 ++ dktL_law_83
def dkwL_law_81 : List UInt8 := [25, 4, 3, 49, 151, 153, 0, 11, 24, 7, 24, 7, 151, 154, 0, 5, 3, 172, 167, 1, 134, 43, 42]
abbrev dktL_law_81 : List UInt8 := dkwL_law_81 ++ dktL_law_82
def dkwL_law_80 : List UInt8 := [159, 0, 5, 3, 172, 21, 6, 154, 0, 35, 25, 4, 3, 49, 24, 7, 151, 153, 0, 25, 25, 4, 3, 49]
abbrev dktL_law_80 : List UInt8 := dkwL_law_80 ++ dktL_law_81
def dkwL_law_79 : List UInt8 := [172, 167, 1, 199, 43, 25, 4, 184, 0, 246, 54, 6, 44, 182, 0, 248, 57, 7, 44, 182, 0, 153, 21, 6]
abbrev dktL_law_79 : List UInt8 := dkwL_law_79 ++ dktL_law_80
def dkwL_law_78 : List UInt8 := [153, 0, 25, 25, 4, 3, 49, 25, 4, 3, 49, 151, 153, 0, 11, 23, 7, 23, 7, 149, 154, 0, 5, 3]
abbrev dktL_law_78 : List UInt8 := dkwL_law_78 ++ dktL_law_79
def dkwL_law_77 : List UInt8 := [182, 0, 153, 21, 6, 159, 0, 5, 3, 172, 21, 6, 154, 0, 36, 25, 4, 3, 49, 23, 7, 141, 151]
abbrev dktL_law_77 : List UInt8 := dkwL_law_77 ++ dktL_law_78
def dkwL_law_76 : List UInt8 := [153, 0, 5, 3, 172, 167, 2, 9, 43, 25, 4, 184, 0, 242, 54, 6, 44, 182, 0, 245, 56, 7, 44]
abbrev dktL_law_76 : List UInt8 := dkwL_law_76 ++ dktL_law_77
def dkwL_law_75 : List UInt8 := [182, 0, 153, 21, 6, 159, 0, 5, 3, 172, 21, 6, 154, 0, 15, 45, 3, 47, 21, 7, 133, 148]
abbrev dktL_law_75 : List UInt8 := dkwL_law_75 ++ dktL_law_76
def dkwL_law_74 : List UInt8 := [21, 5, 4, 96, 46, 45, 184, 0, 239, 54, 6, 44, 42, 21, 5, 4, 96, 46, 182, 0, 241, 54, 7, 44]
abbrev dktL_law_74 : List UInt8 := dkwL_law_74 ++ dktL_law_75
def dkwL_law_73 : List UInt8 := [172, 21, 6, 154, 0, 15, 45, 3, 47, 21, 7, 133, 148, 153, 0, 5, 3, 172, 167, 2, 65, 43, 42]
abbrev dktL_law_73 : List UInt8 := dkwL_law_73 ++ dktL_law_74
def dkwL_law_72 : List UInt8 := [54, 6, 44, 42, 21, 5, 4, 96, 46, 182, 0, 238, 54, 7, 44, 182, 0, 153, 21, 6, 159, 0, 5, 3]
abbrev dktL_law_72 : List UInt8 := dkwL_law_72 ++ dktL_law_73
def dkwL_law_71 : List UInt8 := [21, 7, 133, 148, 153, 0, 5, 3, 172, 167, 2, 121, 43, 42, 21, 5, 4, 96, 46, 45, 184, 0, 236]
abbrev dktL_law_71 : List UInt8 := dkwL_law_71 ++ dktL_law_72
def dkwL_law_70 : List UInt8 := [182, 0, 235, 54, 7, 44, 182, 0, 153, 21, 6, 159, 0, 5, 3, 172, 21, 6, 154, 0, 15, 45, 3, 47]
abbrev dktL_law_70 : List UInt8 := dkwL_law_70 ++ dktL_law_71
def dkwL_law_69 : List UInt8 := [167, 2, 177, 43, 42, 21, 5, 4, 96, 46, 45, 184, 0, 233, 54, 6, 44, 42, 21, 5, 4, 96, 46]
abbrev dktL_law_69 : List UInt8 := dkwL_law_69 ++ dktL_law_70
def dkwL_law_68 : List UInt8 := [159, 0, 5, 3, 172, 21, 6, 154, 0, 15, 45, 3, 47, 21, 7, 133, 148, 153, 0, 5, 3, 172]
abbrev dktL_law_68 : List UInt8 := dkwL_law_68 ++ dktL_law_69
def dkwL_law_67 : List UInt8 := [167, 2, 221, 43, 45, 184, 0, 230, 54, 6, 44, 182, 0, 232, 54, 7, 44, 182, 0, 153, 21, 6]
abbrev dktL_law_67 : List UInt8 := dkwL_law_67 ++ dktL_law_68
def dkwL_law_66 : List UInt8 := [159, 0, 5, 3, 172, 21, 6, 154, 0, 15, 45, 3, 47, 21, 7, 133, 148, 153, 0, 5, 3, 172]
abbrev dktL_law_66 : List UInt8 := dkwL_law_66 ++ dktL_law_67
def dkwL_law_65 : List UInt8 := [21, 5, 4, 96, 46, 42, 21, 5, 5, 96, 46, 182, 0, 229, 54, 7, 44, 182, 0, 153, 21, 6]
abbrev dktL_law_65 : List UInt8 := dkwL_law_65 ++ dktL_law_66
def dkwL_law_64 : List UInt8 := [167, 3, 33, 43, 42, 21, 5, 4, 96, 46, 42, 21, 5, 5, 96, 46, 45, 184, 0, 227, 54, 6, 44, 42]
abbrev dktL_law_64 : List UInt8 := dkwL_law_64 ++ dktL_law_65
def dkwL_law_63 : List UInt8 := [21, 6, 159, 0, 5, 3, 172, 21, 6, 154, 0, 15, 45, 3, 47, 21, 7, 133, 148, 153, 0, 5, 3, 172]
abbrev dktL_law_63 : List UInt8 := dkwL_law_63 ++ dktL_law_64
def dkwL_law_62 : List UInt8 := [46, 45, 184, 0, 224, 54, 6, 44, 42, 21, 5, 4, 96, 46, 182, 0, 226, 54, 7, 44, 182, 0, 153]
abbrev dktL_law_62 : List UInt8 := dkwL_law_62 ++ dktL_law_63
def dkwL_law_61 : List UInt8 := [154, 0, 15, 45, 3, 47, 21, 7, 133, 148, 153, 0, 5, 3, 172, 167, 3, 89, 43, 42, 21, 5, 4, 96]
abbrev dktL_law_61 : List UInt8 := dkwL_law_61 ++ dktL_law_62
def dkwL_law_60 : List UInt8 := [42, 21, 5, 7, 96, 46, 182, 0, 223, 54, 7, 44, 182, 0, 153, 21, 6, 159, 0, 5, 3, 172, 21, 6]
abbrev dktL_law_60 : List UInt8 := dkwL_law_60 ++ dktL_law_61
def dkwL_law_59 : List UInt8 := [184, 0, 220, 54, 6, 44, 42, 21, 5, 4, 96, 46, 42, 21, 5, 5, 96, 46, 42, 21, 5, 6, 96, 46]
abbrev dktL_law_59 : List UInt8 := dkwL_law_59 ++ dktL_law_60
def dkwL_law_58 : List UInt8 := [21, 5, 4, 96, 46, 42, 21, 5, 5, 96, 46, 42, 21, 5, 6, 96, 46, 42, 21, 5, 7, 96, 46, 45]
abbrev dktL_law_58 : List UInt8 := dkwL_law_58 ++ dktL_law_59
def dkwL_law_57 : List UInt8 := [172, 21, 6, 154, 0, 15, 45, 3, 47, 21, 7, 133, 148, 153, 0, 5, 3, 172, 167, 3, 181, 43, 42]
abbrev dktL_law_57 : List UInt8 := dkwL_law_57 ++ dktL_law_58
def dkwL_law_56 : List UInt8 := [54, 6, 44, 42, 21, 5, 4, 96, 46, 182, 0, 219, 54, 7, 44, 182, 0, 153, 21, 6, 159, 0, 5, 3]
abbrev dktL_law_56 : List UInt8 := dkwL_law_56 ++ dktL_law_57
def dkwL_law_55 : List UInt8 := [21, 7, 133, 148, 153, 0, 5, 3, 172, 167, 3, 237, 43, 42, 21, 5, 4, 96, 46, 45, 184, 0, 217]
abbrev dktL_law_55 : List UInt8 := dkwL_law_55 ++ dktL_law_56
def dkwL_law_54 : List UInt8 := [182, 0, 216, 54, 7, 44, 182, 0, 153, 21, 6, 159, 0, 5, 3, 172, 21, 6, 154, 0, 15, 45, 3, 47]
abbrev dktL_law_54 : List UInt8 := dkwL_law_54 ++ dktL_law_55
def dkwL_law_53 : List UInt8 := [21, 5, 5, 96, 46, 45, 184, 0, 214, 54, 6, 44, 42, 21, 5, 4, 96, 46, 42, 21, 5, 5, 96, 46]
abbrev dktL_law_53 : List UInt8 := dkwL_law_53 ++ dktL_law_54
def dkwL_law_52 : List UInt8 := [45, 3, 47, 21, 7, 133, 148, 153, 0, 5, 3, 172, 167, 4, 49, 43, 42, 21, 5, 4, 96, 46, 42]
abbrev dktL_law_52 : List UInt8 := dkwL_law_52 ++ dktL_law_53
def dkwL_law_51 : List UInt8 := [54, 6, 44, 182, 0, 213, 54, 7, 44, 182, 0, 153, 21, 6, 159, 0, 5, 3, 172, 21, 6, 154, 0, 15]
abbrev dktL_law_51 : List UInt8 := dkwL_law_51 ++ dktL_law_52
def dkwL_law_50 : List UInt8 := [154, 0, 15, 45, 3, 47, 21, 7, 133, 148, 153, 0, 5, 3, 172, 167, 4, 93, 43, 45, 184, 0, 211]
abbrev dktL_law_50 : List UInt8 := dkwL_law_50 ++ dktL_law_51
def dkwL_law_49 : List UInt8 := [21, 5, 4, 96, 46, 182, 0, 210, 54, 7, 44, 182, 0, 153, 21, 6, 159, 0, 5, 3, 172, 21, 6]
abbrev dktL_law_49 : List UInt8 := dkwL_law_49 ++ dktL_law_50
def dkwL_law_48 : List UInt8 := [148, 153, 0, 5, 3, 172, 167, 4, 149, 43, 42, 21, 5, 4, 96, 46, 45, 184, 0, 208, 54, 6, 44, 42]
abbrev dktL_law_48 : List UInt8 := dkwL_law_48 ++ dktL_law_49
def dkwL_law_47 : List UInt8 := [54, 7, 44, 182, 0, 153, 21, 6, 159, 0, 5, 3, 172, 21, 6, 154, 0, 15, 45, 3, 47, 21, 7, 133]
abbrev dktL_law_47 : List UInt8 := dkwL_law_47 ++ dktL_law_48
def dkwL_law_46 : List UInt8 := [47, 21, 7, 133, 148, 153, 0, 5, 3, 172, 167, 4, 193, 43, 45, 184, 0, 205, 54, 6, 44, 182, 0, 207]
abbrev dktL_law_46 : List UInt8 := dkwL_law_46 ++ dktL_law_47
def dkwL_law_45 : List UInt8 := [3, 182, 0, 204, 54, 7, 44, 182, 0, 153, 21, 6, 159, 0, 5, 3, 172, 21, 6, 154, 0, 15, 45, 3]
abbrev dktL_law_45 : List UInt8 := dkwL_law_45 ++ dktL_law_46
def dkwL_law_44 : List UInt8 := [21, 5, 4, 96, 46, 42, 21, 5, 5, 96, 46, 42, 21, 5, 6, 96, 46, 153, 0, 7, 4, 167, 0, 4]
abbrev dktL_law_44 : List UInt8 := dkwL_law_44 ++ dktL_law_45
def dkwL_law_43 : List UInt8 := [46, 42, 21, 5, 6, 96, 46, 153, 0, 7, 4, 167, 0, 4, 3, 45, 184, 0, 201, 54, 6, 44, 42]
abbrev dktL_law_43 : List UInt8 := dkwL_law_43 ++ dktL_law_44
def dkwL_law_42 : List UInt8 := [21, 7, 133, 148, 153, 0, 5, 3, 172, 167, 5, 33, 43, 42, 21, 5, 4, 96, 46, 42, 21, 5, 5, 96]
abbrev dktL_law_42 : List UInt8 := dkwL_law_42 ++ dktL_law_43
def dkwL_law_41 : List UInt8 := [182, 0, 200, 54, 7, 44, 182, 0, 153, 21, 6, 159, 0, 5, 3, 172, 21, 6, 154, 0, 15, 45, 3, 47]
abbrev dktL_law_41 : List UInt8 := dkwL_law_41 ++ dktL_law_42
def dkwL_law_40 : List UInt8 := [5, 96, 46, 45, 184, 0, 198, 54, 6, 44, 42, 21, 5, 4, 96, 46, 42, 21, 5, 5, 96, 46]
abbrev dktL_law_40 : List UInt8 := dkwL_law_40 ++ dktL_law_41
def dkwL_law_39 : List UInt8 := [3, 47, 21, 7, 133, 148, 153, 0, 5, 3, 172, 167, 5, 101, 43, 42, 21, 5, 4, 96, 46, 42, 21, 5]
abbrev dktL_law_39 : List UInt8 := dkwL_law_39 ++ dktL_law_40
def dkwL_law_38 : List UInt8 := [96, 46, 182, 0, 197, 54, 7, 44, 182, 0, 153, 21, 6, 159, 0, 5, 3, 172, 21, 6, 154, 0, 15, 45]
abbrev dktL_law_38 : List UInt8 := dkwL_law_38 ++ dktL_law_39
def dkwL_law_37 : List UInt8 := [46, 42, 21, 5, 5, 96, 46, 45, 184, 0, 195, 54, 6, 44, 42, 21, 5, 4, 96, 46, 42, 21, 5, 5]
abbrev dktL_law_37 : List UInt8 := dkwL_law_37 ++ dktL_law_38
def dkwL_law_36 : List UInt8 := [154, 0, 15, 45, 3, 47, 21, 7, 133, 148, 153, 0, 5, 3, 172, 167, 5, 169, 43, 42, 21, 5, 4, 96]
abbrev dktL_law_36 : List UInt8 := dkwL_law_36 ++ dktL_law_37
def dkwL_law_35 : List UInt8 := [21, 5, 6, 96, 46, 182, 0, 194, 54, 7, 44, 182, 0, 153, 21, 6, 159, 0, 5, 3, 172, 21, 6]
abbrev dktL_law_35 : List UInt8 := dkwL_law_35 ++ dktL_law_36
def dkwL_law_34 : List UInt8 := [6, 96, 46, 45, 184, 0, 191, 54, 6, 44, 42, 21, 5, 4, 96, 46, 42, 21, 5, 5, 96, 46, 42]
abbrev dktL_law_34 : List UInt8 := dkwL_law_34 ++ dktL_law_35
def dkwL_law_33 : List UInt8 := [153, 0, 5, 3, 172, 167, 5, 249, 43, 42, 21, 5, 4, 96, 46, 42, 21, 5, 5, 96, 46, 42, 21, 5]
abbrev dktL_law_33 : List UInt8 := dkwL_law_33 ++ dktL_law_34
def dkwL_law_32 : List UInt8 := [182, 0, 153, 21, 6, 159, 0, 5, 3, 172, 21, 6, 154, 0, 15, 45, 3, 47, 21, 7, 133, 148]
abbrev dktL_law_32 : List UInt8 := dkwL_law_32 ++ dktL_law_33
def dkwL_law_31 : List UInt8 := [21, 5, 4, 96, 46, 45, 184, 0, 188, 54, 6, 44, 42, 21, 5, 4, 96, 46, 182, 0, 190, 54, 7, 44]
abbrev dktL_law_31 : List UInt8 := dkwL_law_31 ++ dktL_law_32
def dkwL_law_30 : List UInt8 := [172, 21, 6, 154, 0, 15, 45, 3, 47, 21, 7, 133, 148, 153, 0, 5, 3, 172, 167, 6, 49, 43, 42]
abbrev dktL_law_30 : List UInt8 := dkwL_law_30 ++ dktL_law_31
def dkwL_law_29 : List UInt8 := [54, 6, 44, 42, 21, 5, 4, 96, 46, 182, 0, 187, 54, 7, 44, 182, 0, 153, 21, 6, 159, 0, 5, 3]
abbrev dktL_law_29 : List UInt8 := dkwL_law_29 ++ dktL_law_30
def dkwL_law_28 : List UInt8 := [21, 7, 133, 148, 153, 0, 5, 3, 172, 167, 6, 105, 43, 42, 21, 5, 4, 96, 46, 45, 184, 0, 185]
abbrev dktL_law_28 : List UInt8 := dkwL_law_28 ++ dktL_law_29
def dkwL_law_27 : List UInt8 := [182, 0, 184, 54, 7, 44, 182, 0, 153, 21, 6, 159, 0, 5, 3, 172, 21, 6, 154, 0, 15, 45, 3, 47]
abbrev dktL_law_27 : List UInt8 := dkwL_law_27 ++ dktL_law_28
def dkwL_law_26 : List UInt8 := [5, 96, 46, 45, 184, 0, 182, 54, 6, 44, 42, 21, 5, 4, 96, 46, 42, 21, 5, 5, 96, 46]
abbrev dktL_law_26 : List UInt8 := dkwL_law_26 ++ dktL_law_27
def dkwL_law_25 : List UInt8 := [3, 47, 21, 7, 133, 148, 153, 0, 5, 3, 172, 167, 6, 173, 43, 42, 21, 5, 4, 96, 46, 42, 21, 5]
abbrev dktL_law_25 : List UInt8 := dkwL_law_25 ++ dktL_law_26
def dkwL_law_24 : List UInt8 := [96, 46, 182, 0, 181, 54, 7, 44, 182, 0, 153, 21, 6, 159, 0, 5, 3, 172, 21, 6, 154, 0, 15, 45]
abbrev dktL_law_24 : List UInt8 := dkwL_law_24 ++ dktL_law_25
def dkwL_law_23 : List UInt8 := [46, 42, 21, 5, 5, 96, 46, 45, 184, 0, 179, 54, 6, 44, 42, 21, 5, 4, 96, 46, 42, 21, 5, 5]
abbrev dktL_law_23 : List UInt8 := dkwL_law_23 ++ dktL_law_24
def dkwL_law_22 : List UInt8 := [154, 0, 15, 45, 3, 47, 21, 7, 133, 148, 153, 0, 5, 3, 172, 167, 6, 241, 43, 42, 21, 5, 4, 96]
abbrev dktL_law_22 : List UInt8 := dkwL_law_22 ++ dktL_law_23
def dkwL_law_21 : List UInt8 := [184, 0, 176, 54, 6, 44, 182, 0, 178, 54, 7, 44, 182, 0, 153, 21, 6, 159, 0, 5, 3, 172, 21, 6]
abbrev dktL_law_21 : List UInt8 := dkwL_law_21 ++ dktL_law_22
def dkwL_law_20 : List UInt8 := [172, 21, 6, 154, 0, 15, 45, 3, 47, 21, 7, 133, 148, 153, 0, 5, 3, 172, 167, 7, 29, 43, 45]
abbrev dktL_law_20 : List UInt8 := dkwL_law_20 ++ dktL_law_21
def dkwL_law_19 : List UInt8 := [54, 6, 44, 42, 21, 5, 4, 96, 46, 182, 0, 175, 54, 7, 44, 182, 0, 153, 21, 6, 159, 0, 5, 3]
abbrev dktL_law_19 : List UInt8 := dkwL_law_19 ++ dktL_law_20
def dkwL_law_18 : List UInt8 := [21, 7, 133, 148, 153, 0, 5, 3, 172, 167, 7, 85, 43, 42, 21, 5, 4, 96, 46, 45, 184, 0, 173]
abbrev dktL_law_18 : List UInt8 := dkwL_law_18 ++ dktL_law_19
def dkwL_law_17 : List UInt8 := [182, 0, 172, 54, 7, 44, 182, 0, 153, 21, 6, 159, 0, 5, 3, 172, 21, 6, 154, 0, 15, 45, 3, 47]
abbrev dktL_law_17 : List UInt8 := dkwL_law_17 ++ dktL_law_18
def dkwL_law_16 : List UInt8 := [167, 7, 141, 43, 42, 21, 5, 4, 96, 46, 45, 184, 0, 170, 54, 6, 44, 42, 21, 5, 4, 96, 46]
abbrev dktL_law_16 : List UInt8 := dkwL_law_16 ++ dktL_law_17
def dkwL_law_15 : List UInt8 := [159, 0, 5, 3, 172, 21, 6, 154, 0, 15, 45, 3, 47, 21, 7, 133, 148, 153, 0, 5, 3, 172]
abbrev dktL_law_15 : List UInt8 := dkwL_law_15 ++ dktL_law_16
def dkwL_law_14 : List UInt8 := [21, 5, 4, 96, 46, 42, 21, 5, 5, 96, 46, 182, 0, 169, 54, 7, 44, 182, 0, 153, 21, 6]
abbrev dktL_law_14 : List UInt8 := dkwL_law_14 ++ dktL_law_15
def dkwL_law_13 : List UInt8 := [167, 7, 209, 43, 42, 21, 5, 4, 96, 46, 42, 21, 5, 5, 96, 46, 45, 184, 0, 167, 54, 6, 44, 42]
abbrev dktL_law_13 : List UInt8 := dkwL_law_13 ++ dktL_law_14
def dkwL_law_12 : List UInt8 := [159, 0, 5, 3, 172, 21, 6, 154, 0, 15, 45, 3, 47, 21, 7, 133, 148, 153, 0, 5, 3, 172]
abbrev dktL_law_12 : List UInt8 := dkwL_law_12 ++ dktL_law_13
def dkwL_law_11 : List UInt8 := [21, 5, 4, 96, 46, 42, 21, 5, 5, 96, 46, 182, 0, 166, 54, 7, 44, 182, 0, 153, 21, 6]
abbrev dktL_law_11 : List UInt8 := dkwL_law_11 ++ dktL_law_12
def dkwL_law_10 : List UInt8 := [167, 8, 21, 43, 42, 21, 5, 4, 96, 46, 42, 21, 5, 5, 96, 46, 45, 184, 0, 164, 54, 6, 44, 42]
abbrev dktL_law_10 : List UInt8 := dkwL_law_10 ++ dktL_law_11
def dkwL_law_9 : List UInt8 := [21, 6, 159, 0, 5, 3, 172, 21, 6, 154, 0, 15, 45, 3, 47, 21, 7, 133, 148, 153, 0, 5, 3, 172]
abbrev dktL_law_9 : List UInt8 := dkwL_law_9 ++ dktL_law_10
def dkwL_law_8 : List UInt8 := [46, 45, 184, 0, 160, 54, 6, 44, 42, 21, 5, 4, 96, 46, 182, 0, 163, 54, 7, 44, 182, 0, 153]
abbrev dktL_law_8 : List UInt8 := dkwL_law_8 ++ dktL_law_9
def dkwL_law_7 : List UInt8 := [154, 0, 15, 45, 3, 47, 21, 7, 133, 148, 153, 0, 5, 3, 172, 167, 8, 77, 43, 42, 21, 5, 4, 96]
abbrev dktL_law_7 : List UInt8 := dkwL_law_7 ++ dktL_law_8
def dkwL_law_6 : List UInt8 := [21, 5, 5, 96, 46, 182, 0, 159, 54, 7, 44, 182, 0, 153, 21, 6, 159, 0, 5, 3, 172, 21, 6]
abbrev dktL_law_6 : List UInt8 := dkwL_law_6 ++ dktL_law_7
def dkwL_law_5 : List UInt8 := [4, 96, 46, 42, 21, 5, 5, 96, 46, 45, 184, 0, 156, 54, 6, 44, 42, 21, 5, 4, 96, 46, 42]
abbrev dktL_law_5 : List UInt8 := dkwL_law_5 ++ dktL_law_6
def dkwL_law_4 : List UInt8 := [21, 6, 154, 0, 15, 45, 3, 47, 21, 7, 133, 148, 153, 0, 5, 3, 172, 167, 8, 145, 43, 42, 21, 5]
abbrev dktL_law_4 : List UInt8 := dkwL_law_4 ++ dktL_law_5
def dkwL_law_3 : List UInt8 := [43, 45, 184, 0, 147, 54, 6, 44, 182, 0, 152, 54, 7, 44, 182, 0, 153, 21, 6, 159, 0, 5, 3, 172]
abbrev dktL_law_3 : List UInt8 := dkwL_law_3 ++ dktL_law_4
def dkwL_law_2 : List UInt8 := [170, 0, 0, 0, 0, 0, 9, 98, 0, 0, 0, 0, 0, 0, 0, 37, 0, 0, 0, 168, 0, 0, 0, 212, 0, 0, 1, 24, 0, 0, 1, 80, 0, 0, 1, 148, 0, 0, 1, 216, 0, 0, 2, 16, 0, 0, 2, 72, 0, 0, 2, 116, 0, 0, 2, 184, 0, 0, 2, 252, 0, 0, 3, 52, 0, 0, 3, 108, 0, 0, 3, 188, 0, 0, 4, 0, 0, 0, 4, 68, 0, 0, 4, 164, 0, 0, 4, 208, 0, 0, 5, 8, 0, 0, 5, 52, 0, 0, 5, 120, 0, 0, 5, 176, 0, 0, 6, 12, 0, 0, 6, 68, 0, 0, 6, 136, 0, 0, 6, 180, 0, 0, 6, 236, 0, 0, 7, 36, 0, 0, 7, 92, 0, 0, 7, 158, 0, 0, 7, 223, 0, 0, 8, 23, 0, 0, 8, 81, 0, 0, 8, 125, 0, 0, 8, 169, 0, 0, 8, 253, 0, 0, 9, 41, 0, 0, 9, 54]
abbrev dktL_law_2 : List UInt8 := dkwL_law_2 ++ dktL_law_3
def dkwL_law_1 : List UInt8 := [58, 4, 3, 54, 5, 21, 5, 42, 190, 8, 100, 163, 9, 114, 42, 21, 5, 46, 16, 63, 126]
abbrev dktL_law_1 : List UInt8 := dkwL_law_1 ++ dktL_law_2
def dkwL_law_0 : List UInt8 := [187, 0, 8, 89, 183, 0, 143, 76, 187, 0, 144, 89, 183, 0, 146, 77, 4, 188, 11, 78, 4, 188, 7]
abbrev dktL_law_0 : List UInt8 := dkwL_law_0 ++ dktL_law_1
theorem dksL_law_0 : cL_law.data.toList.drop 0 = dktL_law_0 := by decide +kernel
theorem dksL_law_1 : cL_law.data.toList.drop 23 = dktL_law_1 := dk_seg dksL_law_0 23 rfl rfl
theorem dksL_law_2 : cL_law.data.toList.drop 44 = dktL_law_2 := dk_seg dksL_law_1 21 rfl rfl
theorem dksL_law_3 : cL_law.data.toList.drop 212 = dktL_law_3 := dk_seg dksL_law_2 168 rfl rfl
theorem dksL_law_4 : cL_law.data.toList.drop 236 = dktL_law_4 := dk_seg dksL_law_3 24 rfl rfl
theorem dksL_law_5 : cL_law.data.toList.drop 260 = dktL_law_5 := dk_seg dksL_law_4 24 rfl rfl
theorem dksL_law_6 : cL_law.data.toList.drop 283 = dktL_law_6 := dk_seg dksL_law_5 23 rfl rfl
theorem dksL_law_7 : cL_law.data.toList.drop 306 = dktL_law_7 := dk_seg dksL_law_6 23 rfl rfl
theorem dksL_law_8 : cL_law.data.toList.drop 330 = dktL_law_8 := dk_seg dksL_law_7 24 rfl rfl
theorem dksL_law_9 : cL_law.data.toList.drop 353 = dktL_law_9 := dk_seg dksL_law_8 23 rfl rfl
theorem dksL_law_10 : cL_law.data.toList.drop 377 = dktL_law_10 := dk_seg dksL_law_9 24 rfl rfl
theorem dksL_law_11 : cL_law.data.toList.drop 401 = dktL_law_11 := dk_seg dksL_law_10 24 rfl rfl
theorem dksL_law_12 : cL_law.data.toList.drop 423 = dktL_law_12 := dk_seg dksL_law_11 22 rfl rfl
theorem dksL_law_13 : cL_law.data.toList.drop 445 = dktL_law_13 := dk_seg dksL_law_12 22 rfl rfl
theorem dksL_law_14 : cL_law.data.toList.drop 469 = dktL_law_14 := dk_seg dksL_law_13 24 rfl rfl
theorem dksL_law_15 : cL_law.data.toList.drop 491 = dktL_law_15 := dk_seg dksL_law_14 22 rfl rfl
theorem dksL_law_16 : cL_law.data.toList.drop 513 = dktL_law_16 := dk_seg dksL_law_15 22 rfl rfl
theorem dksL_law_17 : cL_law.data.toList.drop 536 = dktL_law_17 := dk_seg dksL_law_16 23 rfl rfl
theorem dksL_law_18 : cL_law.data.toList.drop 560 = dktL_law_18 := dk_seg dksL_law_17 24 rfl rfl
theorem dksL_law_19 : cL_law.data.toList.drop 583 = dktL_law_19 := dk_seg dksL_law_18 23 rfl rfl
theorem dksL_law_20 : cL_law.data.toList.drop 607 = dktL_law_20 := dk_seg dksL_law_19 24 rfl rfl
theorem dksL_law_21 : cL_law.data.toList.drop 630 = dktL_law_21 := dk_seg dksL_law_20 23 rfl rfl
theorem dksL_law_22 : cL_law.data.toList.drop 654 = dktL_law_22 := dk_seg dksL_law_21 24 rfl rfl
theorem dksL_law_23 : cL_law.data.toList.drop 678 = dktL_law_23 := dk_seg dksL_law_22 24 rfl rfl
theorem dksL_law_24 : cL_law.data.toList.drop 702 = dktL_law_24 := dk_seg dksL_law_23 24 rfl rfl
theorem dksL_law_25 : cL_law.data.toList.drop 726 = dktL_law_25 := dk_seg dksL_law_24 24 rfl rfl
theorem dksL_law_26 : cL_law.data.toList.drop 750 = dktL_law_26 := dk_seg dksL_law_25 24 rfl rfl
theorem dksL_law_27 : cL_law.data.toList.drop 772 = dktL_law_27 := dk_seg dksL_law_26 22 rfl rfl
theorem dksL_law_28 : cL_law.data.toList.drop 796 = dktL_law_28 := dk_seg dksL_law_27 24 rfl rfl
theorem dksL_law_29 : cL_law.data.toList.drop 819 = dktL_law_29 := dk_seg dksL_law_28 23 rfl rfl
theorem dksL_law_30 : cL_law.data.toList.drop 843 = dktL_law_30 := dk_seg dksL_law_29 24 rfl rfl
theorem dksL_law_31 : cL_law.data.toList.drop 866 = dktL_law_31 := dk_seg dksL_law_30 23 rfl rfl
theorem dksL_law_32 : cL_law.data.toList.drop 890 = dktL_law_32 := dk_seg dksL_law_31 24 rfl rfl
theorem dksL_law_33 : cL_law.data.toList.drop 912 = dktL_law_33 := dk_seg dksL_law_32 22 rfl rfl
theorem dksL_law_34 : cL_law.data.toList.drop 936 = dktL_law_34 := dk_seg dksL_law_33 24 rfl rfl
theorem dksL_law_35 : cL_law.data.toList.drop 959 = dktL_law_35 := dk_seg dksL_law_34 23 rfl rfl
theorem dksL_law_36 : cL_law.data.toList.drop 982 = dktL_law_36 := dk_seg dksL_law_35 23 rfl rfl
theorem dksL_law_37 : cL_law.data.toList.drop 1006 = dktL_law_37 := dk_seg dksL_law_36 24 rfl rfl
theorem dksL_law_38 : cL_law.data.toList.drop 1030 = dktL_law_38 := dk_seg dksL_law_37 24 rfl rfl
theorem dksL_law_39 : cL_law.data.toList.drop 1054 = dktL_law_39 := dk_seg dksL_law_38 24 rfl rfl
theorem dksL_law_40 : cL_law.data.toList.drop 1078 = dktL_law_40 := dk_seg dksL_law_39 24 rfl rfl
theorem dksL_law_41 : cL_law.data.toList.drop 1100 = dktL_law_41 := dk_seg dksL_law_40 22 rfl rfl
theorem dksL_law_42 : cL_law.data.toList.drop 1124 = dktL_law_42 := dk_seg dksL_law_41 24 rfl rfl
theorem dksL_law_43 : cL_law.data.toList.drop 1148 = dktL_law_43 := dk_seg dksL_law_42 24 rfl rfl
theorem dksL_law_44 : cL_law.data.toList.drop 1171 = dktL_law_44 := dk_seg dksL_law_43 23 rfl rfl
theorem dksL_law_45 : cL_law.data.toList.drop 1195 = dktL_law_45 := dk_seg dksL_law_44 24 rfl rfl
theorem dksL_law_46 : cL_law.data.toList.drop 1219 = dktL_law_46 := dk_seg dksL_law_45 24 rfl rfl
theorem dksL_law_47 : cL_law.data.toList.drop 1243 = dktL_law_47 := dk_seg dksL_law_46 24 rfl rfl
theorem dksL_law_48 : cL_law.data.toList.drop 1267 = dktL_law_48 := dk_seg dksL_law_47 24 rfl rfl
theorem dksL_law_49 : cL_law.data.toList.drop 1291 = dktL_law_49 := dk_seg dksL_law_48 24 rfl rfl
theorem dksL_law_50 : cL_law.data.toList.drop 1314 = dktL_law_50 := dk_seg dksL_law_49 23 rfl rfl
theorem dksL_law_51 : cL_law.data.toList.drop 1337 = dktL_law_51 := dk_seg dksL_law_50 23 rfl rfl
theorem dksL_law_52 : cL_law.data.toList.drop 1361 = dktL_law_52 := dk_seg dksL_law_51 24 rfl rfl
theorem dksL_law_53 : cL_law.data.toList.drop 1384 = dktL_law_53 := dk_seg dksL_law_52 23 rfl rfl
theorem dksL_law_54 : cL_law.data.toList.drop 1408 = dktL_law_54 := dk_seg dksL_law_53 24 rfl rfl
theorem dksL_law_55 : cL_law.data.toList.drop 1432 = dktL_law_55 := dk_seg dksL_law_54 24 rfl rfl
theorem dksL_law_56 : cL_law.data.toList.drop 1455 = dktL_law_56 := dk_seg dksL_law_55 23 rfl rfl
theorem dksL_law_57 : cL_law.data.toList.drop 1479 = dktL_law_57 := dk_seg dksL_law_56 24 rfl rfl
theorem dksL_law_58 : cL_law.data.toList.drop 1502 = dktL_law_58 := dk_seg dksL_law_57 23 rfl rfl
theorem dksL_law_59 : cL_law.data.toList.drop 1526 = dktL_law_59 := dk_seg dksL_law_58 24 rfl rfl
theorem dksL_law_60 : cL_law.data.toList.drop 1550 = dktL_law_60 := dk_seg dksL_law_59 24 rfl rfl
theorem dksL_law_61 : cL_law.data.toList.drop 1574 = dktL_law_61 := dk_seg dksL_law_60 24 rfl rfl
theorem dksL_law_62 : cL_law.data.toList.drop 1598 = dktL_law_62 := dk_seg dksL_law_61 24 rfl rfl
theorem dksL_law_63 : cL_law.data.toList.drop 1621 = dktL_law_63 := dk_seg dksL_law_62 23 rfl rfl
theorem dksL_law_64 : cL_law.data.toList.drop 1645 = dktL_law_64 := dk_seg dksL_law_63 24 rfl rfl
theorem dksL_law_65 : cL_law.data.toList.drop 1669 = dktL_law_65 := dk_seg dksL_law_64 24 rfl rfl
theorem dksL_law_66 : cL_law.data.toList.drop 1691 = dktL_law_66 := dk_seg dksL_law_65 22 rfl rfl
theorem dksL_law_67 : cL_law.data.toList.drop 1713 = dktL_law_67 := dk_seg dksL_law_66 22 rfl rfl
theorem dksL_law_68 : cL_law.data.toList.drop 1735 = dktL_law_68 := dk_seg dksL_law_67 22 rfl rfl
theorem dksL_law_69 : cL_law.data.toList.drop 1757 = dktL_law_69 := dk_seg dksL_law_68 22 rfl rfl
theorem dksL_law_70 : cL_law.data.toList.drop 1780 = dktL_law_70 := dk_seg dksL_law_69 23 rfl rfl
theorem dksL_law_71 : cL_law.data.toList.drop 1804 = dktL_law_71 := dk_seg dksL_law_70 24 rfl rfl
theorem dksL_law_72 : cL_law.data.toList.drop 1827 = dktL_law_72 := dk_seg dksL_law_71 23 rfl rfl
theorem dksL_law_73 : cL_law.data.toList.drop 1851 = dktL_law_73 := dk_seg dksL_law_72 24 rfl rfl
theorem dksL_law_74 : cL_law.data.toList.drop 1874 = dktL_law_74 := dk_seg dksL_law_73 23 rfl rfl
theorem dksL_law_75 : cL_law.data.toList.drop 1898 = dktL_law_75 := dk_seg dksL_law_74 24 rfl rfl
theorem dksL_law_76 : cL_law.data.toList.drop 1920 = dktL_law_76 := dk_seg dksL_law_75 22 rfl rfl
theorem dksL_law_77 : cL_law.data.toList.drop 1943 = dktL_law_77 := dk_seg dksL_law_76 23 rfl rfl
theorem dksL_law_78 : cL_law.data.toList.drop 1966 = dktL_law_78 := dk_seg dksL_law_77 23 rfl rfl
theorem dksL_law_79 : cL_law.data.toList.drop 1990 = dktL_law_79 := dk_seg dksL_law_78 24 rfl rfl
theorem dksL_law_80 : cL_law.data.toList.drop 2014 = dktL_law_80 := dk_seg dksL_law_79 24 rfl rfl
theorem dksL_law_81 : cL_law.data.toList.drop 2038 = dktL_law_81 := dk_seg dksL_law_80 24 rfl rfl
theorem dksL_law_82 : cL_law.data.toList.drop 2061 = dktL_law_82 := dk_seg dksL_law_81 23 rfl rfl
theorem dksL_law_83 : cL_law.data.toList.drop 2085 = dktL_law_83 := dk_seg dksL_law_82 24 rfl rfl
theorem dksL_law_84 : cL_law.data.toList.drop 2107 = dktL_law_84 := dk_seg dksL_law_83 22 rfl rfl
theorem dksL_law_85 : cL_law.data.toList.drop 2131 = dktL_law_85 := dk_seg dksL_law_84 24 rfl rfl
theorem dksL_law_86 : cL_law.data.toList.drop 2155 = dktL_law_86 := dk_seg dksL_law_85 24 rfl rfl
theorem dksL_law_87 : cL_law.data.toList.drop 2178 = dktL_law_87 := dk_seg dksL_law_86 23 rfl rfl
theorem dksL_law_88 : cL_law.data.toList.drop 2202 = dktL_law_88 := dk_seg dksL_law_87 24 rfl rfl
theorem dksL_law_89 : cL_law.data.toList.drop 2225 = dktL_law_89 := dk_seg dksL_law_88 23 rfl rfl
theorem dksL_law_90 : cL_law.data.toList.drop 2249 = dktL_law_90 := dk_seg dksL_law_89 24 rfl rfl
theorem dksL_law_91 : cL_law.data.toList.drop 2273 = dktL_law_91 := dk_seg dksL_law_90 24 rfl rfl
theorem dksL_law_92 : cL_law.data.toList.drop 2296 = dktL_law_92 := dk_seg dksL_law_91 23 rfl rfl
theorem dksL_law_93 : cL_law.data.toList.drop 2320 = dktL_law_93 := dk_seg dksL_law_92 24 rfl rfl
theorem dksL_law_94 : cL_law.data.toList.drop 2342 = dktL_law_94 := dk_seg dksL_law_93 22 rfl rfl
theorem dksL_law_95 : cL_law.data.toList.drop 2364 = dktL_law_95 := dk_seg dksL_law_94 22 rfl rfl
theorem dksL_law_96 : cL_law.data.toList.drop 2386 = dktL_law_96 := dk_seg dksL_law_95 22 rfl rfl
theorem dksL_law_97 : cL_law.data.toList.drop 2410 = dktL_law_97 := dk_seg dksL_law_96 24 rfl rfl
theorem dksL_law_98 : cL_law.data.toList.drop 2434 = dktL_law_98 := dk_seg dksL_law_97 24 rfl rfl
theorem dL_law_0 : decode cL_law 0 = .ok (.new 8, 3) := dk_187 0 8 (dk_at dksL_law_0 0 rfl rfl)
theorem dL_law_3 : decode cL_law 3 = .ok (.dup, 1) := dk_89 (dk_at dksL_law_0 3 rfl rfl)
theorem dL_law_4 : decode cL_law 4 = .ok (.invokespecial 143, 3) := dk_183 0 143 (dk_at dksL_law_0 4 rfl rfl)
theorem dL_law_7 : decode cL_law 7 = .ok (.astore_n 1, 1) := dk_76 (dk_at dksL_law_0 7 rfl rfl)
theorem dL_law_8 : decode cL_law 8 = .ok (.new 144, 3) := dk_187 0 144 (dk_at dksL_law_0 8 rfl rfl)
theorem dL_law_11 : decode cL_law 11 = .ok (.dup, 1) := dk_89 (dk_at dksL_law_0 11 rfl rfl)
theorem dL_law_12 : decode cL_law 12 = .ok (.invokespecial 146, 3) := dk_183 0 146 (dk_at dksL_law_0 12 rfl rfl)
theorem dL_law_15 : decode cL_law 15 = .ok (.astore_n 2, 1) := dk_77 (dk_at dksL_law_0 15 rfl rfl)
theorem dL_law_16 : decode cL_law 16 = .ok (.iconst 1, 1) := dk_4 (dk_at dksL_law_0 16 rfl rfl)
theorem dL_law_17 : decode cL_law 17 = .ok (.newarray .long, 2) := dk_188_11 (dk_at dksL_law_0 17 rfl rfl)
theorem dL_law_19 : decode cL_law 19 = .ok (.astore_n 3, 1) := dk_78 (dk_at dksL_law_0 19 rfl rfl)
theorem dL_law_20 : decode cL_law 20 = .ok (.iconst 1, 1) := dk_4 (dk_at dksL_law_0 20 rfl rfl)
theorem dL_law_21 : decode cL_law 21 = .ok (.newarray .double, 2) := dk_188_7 (dk_at dksL_law_0 21 rfl rfl)
theorem dL_law_23 : decode cL_law 23 = .ok (.astore 4, 2) := dk_58 4 (dk_at dksL_law_1 0 rfl rfl)
theorem dL_law_25 : decode cL_law 25 = .ok (.iconst 0, 1) := dk_3 (dk_at dksL_law_1 2 rfl rfl)
theorem dL_law_26 : decode cL_law 26 = .ok (.istore 5, 2) := dk_54 5 (dk_at dksL_law_1 3 rfl rfl)
theorem dL_law_28 : decode cL_law 28 = .ok (.iload 5, 2) := dk_21 5 (dk_at dksL_law_1 5 rfl rfl)
theorem dL_law_30 : decode cL_law 30 = .ok (.aload_n 0, 1) := dk_42 (dk_at dksL_law_1 7 rfl rfl)
theorem dL_law_31 : decode cL_law 31 = .ok (.arraylength, 1) := dk_190 (dk_at dksL_law_1 8 rfl rfl)
theorem dL_law_32 : decode cL_law 32 = .ok (.iconst 5, 1) := dk_8 (dk_at dksL_law_1 9 rfl rfl)
theorem dL_law_33 : decode cL_law 33 = .ok (.isub, 1) := dk_100 (dk_at dksL_law_1 10 rfl rfl)
theorem dL_law_34 : decode cL_law 34 = .ok (.if_icmp .gt 2418, 3) := dk_163 9 114 (dk_at dksL_law_1 11 rfl rfl)
theorem dL_law_37 : decode cL_law 37 = .ok (.aload_n 0, 1) := dk_42 (dk_at dksL_law_1 14 rfl rfl)
theorem dL_law_38 : decode cL_law 38 = .ok (.iload 5, 2) := dk_21 5 (dk_at dksL_law_1 15 rfl rfl)
theorem dL_law_40 : decode cL_law 40 = .ok (.iaload, 1) := dk_46 (dk_at dksL_law_1 17 rfl rfl)
theorem dL_law_41 : decode cL_law 41 = .ok (.bipush 63, 2) := dk_16 63 (dk_at dksL_law_1 18 rfl rfl)
theorem dL_law_43 : decode cL_law 43 = .ok (.iand, 1) := dk_126 (dk_at dksL_law_1 20 rfl rfl)
theorem dL_law_44 : decode cL_law 44 = .ok (.tableswitch 2402 0 37 #[168, 212, 280, 336, 404, 472, 528, 584, 628, 696, 764, 820, 876, 956, 1024, 1092, 1188, 1232, 1288, 1332, 1400, 1456, 1548, 1604, 1672, 1716, 1772, 1828, 1884, 1950, 2015, 2071, 2129, 2173, 2217, 2301, 2345, 2358], 168) := by decide +kernel
theorem dL_law_212 : decode cL_law 212 = .ok (.aload_n 1, 1) := dk_43 (dk_at dksL_law_3 0 rfl rfl)
theorem dL_law_213 : decode cL_law 213 = .ok (.aload_n 3, 1) := dk_45 (dk_at dksL_law_3 1 rfl rfl)
theorem dL_law_214 : decode cL_law 214 = .ok (.invokestatic 147, 3) := dk_184 0 147 (dk_at dksL_law_3 2 rfl rfl)
theorem dL_law_217 : decode cL_law 217 = .ok (.istore 6, 2) := dk_54 6 (dk_at dksL_law_3 5 rfl rfl)
theorem dL_law_219 : decode cL_law 219 = .ok (.aload_n 2, 1) := dk_44 (dk_at dksL_law_3 7 rfl rfl)
theorem dL_law_220 : decode cL_law 220 = .ok (.invokevirtual 152, 3) := dk_182 0 152 (dk_at dksL_law_3 8 rfl rfl)
theorem dL_law_223 : decode cL_law 223 = .ok (.istore 7, 2) := dk_54 7 (dk_at dksL_law_3 11 rfl rfl)
theorem dL_law_225 : decode cL_law 225 = .ok (.aload_n 2, 1) := dk_44 (dk_at dksL_law_3 13 rfl rfl)
theorem dL_law_226 : decode cL_law 226 = .ok (.invokevirtual 153, 3) := dk_182 0 153 (dk_at dksL_law_3 14 rfl rfl)
theorem dL_law_229 : decode cL_law 229 = .ok (.iload 6, 2) := dk_21 6 (dk_at dksL_law_3 17 rfl rfl)
theorem dL_law_231 : decode cL_law 231 = .ok (.if_icmp .eq 5, 3) := dk_159 0 5 (dk_at dksL_law_3 19 rfl rfl)
theorem dL_law_234 : decode cL_law 234 = .ok (.iconst 0, 1) := dk_3 (dk_at dksL_law_3 22 rfl rfl)
theorem dL_law_235 : decode cL_law 235 = .ok (.ireturn, 1) := dk_172 (dk_at dksL_law_3 23 rfl rfl)
theorem dL_law_236 : decode cL_law 236 = .ok (.iload 6, 2) := dk_21 6 (dk_at dksL_law_4 0 rfl rfl)
theorem dL_law_238 : decode cL_law 238 = .ok (.ifCond .ne 15, 3) := dk_154 0 15 (dk_at dksL_law_4 2 rfl rfl)
theorem dL_law_241 : decode cL_law 241 = .ok (.aload_n 3, 1) := dk_45 (dk_at dksL_law_4 5 rfl rfl)
theorem dL_law_242 : decode cL_law 242 = .ok (.iconst 0, 1) := dk_3 (dk_at dksL_law_4 6 rfl rfl)
theorem dL_law_243 : decode cL_law 243 = .ok (.laload, 1) := dk_47 (dk_at dksL_law_4 7 rfl rfl)
theorem dL_law_244 : decode cL_law 244 = .ok (.iload 7, 2) := dk_21 7 (dk_at dksL_law_4 8 rfl rfl)
theorem dL_law_246 : decode cL_law 246 = .ok (.i2l, 1) := dk_133 (dk_at dksL_law_4 10 rfl rfl)
theorem dL_law_247 : decode cL_law 247 = .ok (.lcmp, 1) := dk_148 (dk_at dksL_law_4 11 rfl rfl)
theorem dL_law_248 : decode cL_law 248 = .ok (.ifCond .eq 5, 3) := dk_153 0 5 (dk_at dksL_law_4 12 rfl rfl)
theorem dL_law_251 : decode cL_law 251 = .ok (.iconst 0, 1) := dk_3 (dk_at dksL_law_4 15 rfl rfl)
theorem dL_law_252 : decode cL_law 252 = .ok (.ireturn, 1) := dk_172 (dk_at dksL_law_4 16 rfl rfl)
theorem dL_law_253 : decode cL_law 253 = .ok (.goto 2193, 3) := dk_167 8 145 (dk_at dksL_law_4 17 rfl rfl)
theorem dL_law_256 : decode cL_law 256 = .ok (.aload_n 1, 1) := dk_43 (dk_at dksL_law_4 20 rfl rfl)
theorem dL_law_257 : decode cL_law 257 = .ok (.aload_n 0, 1) := dk_42 (dk_at dksL_law_4 21 rfl rfl)
theorem dL_law_258 : decode cL_law 258 = .ok (.iload 5, 2) := dk_21 5 (dk_at dksL_law_4 22 rfl rfl)
theorem dL_law_260 : decode cL_law 260 = .ok (.iconst 1, 1) := dk_4 (dk_at dksL_law_5 0 rfl rfl)
theorem dL_law_261 : decode cL_law 261 = .ok (.iadd, 1) := dk_96 (dk_at dksL_law_5 1 rfl rfl)
theorem dL_law_262 : decode cL_law 262 = .ok (.iaload, 1) := dk_46 (dk_at dksL_law_5 2 rfl rfl)
theorem dL_law_263 : decode cL_law 263 = .ok (.aload_n 0, 1) := dk_42 (dk_at dksL_law_5 3 rfl rfl)
theorem dL_law_264 : decode cL_law 264 = .ok (.iload 5, 2) := dk_21 5 (dk_at dksL_law_5 4 rfl rfl)
theorem dL_law_266 : decode cL_law 266 = .ok (.iconst 2, 1) := dk_5 (dk_at dksL_law_5 6 rfl rfl)
theorem dL_law_267 : decode cL_law 267 = .ok (.iadd, 1) := dk_96 (dk_at dksL_law_5 7 rfl rfl)
theorem dL_law_268 : decode cL_law 268 = .ok (.iaload, 1) := dk_46 (dk_at dksL_law_5 8 rfl rfl)
theorem dL_law_269 : decode cL_law 269 = .ok (.aload_n 3, 1) := dk_45 (dk_at dksL_law_5 9 rfl rfl)
theorem dL_law_270 : decode cL_law 270 = .ok (.invokestatic 156, 3) := dk_184 0 156 (dk_at dksL_law_5 10 rfl rfl)
theorem dL_law_273 : decode cL_law 273 = .ok (.istore 6, 2) := dk_54 6 (dk_at dksL_law_5 13 rfl rfl)
theorem dL_law_275 : decode cL_law 275 = .ok (.aload_n 2, 1) := dk_44 (dk_at dksL_law_5 15 rfl rfl)
theorem dL_law_276 : decode cL_law 276 = .ok (.aload_n 0, 1) := dk_42 (dk_at dksL_law_5 16 rfl rfl)
theorem dL_law_277 : decode cL_law 277 = .ok (.iload 5, 2) := dk_21 5 (dk_at dksL_law_5 17 rfl rfl)
theorem dL_law_279 : decode cL_law 279 = .ok (.iconst 1, 1) := dk_4 (dk_at dksL_law_5 19 rfl rfl)
theorem dL_law_280 : decode cL_law 280 = .ok (.iadd, 1) := dk_96 (dk_at dksL_law_5 20 rfl rfl)
theorem dL_law_281 : decode cL_law 281 = .ok (.iaload, 1) := dk_46 (dk_at dksL_law_5 21 rfl rfl)
theorem dL_law_282 : decode cL_law 282 = .ok (.aload_n 0, 1) := dk_42 (dk_at dksL_law_5 22 rfl rfl)
theorem dL_law_283 : decode cL_law 283 = .ok (.iload 5, 2) := dk_21 5 (dk_at dksL_law_6 0 rfl rfl)
theorem dL_law_285 : decode cL_law 285 = .ok (.iconst 2, 1) := dk_5 (dk_at dksL_law_6 2 rfl rfl)
theorem dL_law_286 : decode cL_law 286 = .ok (.iadd, 1) := dk_96 (dk_at dksL_law_6 3 rfl rfl)
theorem dL_law_287 : decode cL_law 287 = .ok (.iaload, 1) := dk_46 (dk_at dksL_law_6 4 rfl rfl)
theorem dL_law_288 : decode cL_law 288 = .ok (.invokevirtual 159, 3) := dk_182 0 159 (dk_at dksL_law_6 5 rfl rfl)
theorem dL_law_291 : decode cL_law 291 = .ok (.istore 7, 2) := dk_54 7 (dk_at dksL_law_6 8 rfl rfl)
theorem dL_law_293 : decode cL_law 293 = .ok (.aload_n 2, 1) := dk_44 (dk_at dksL_law_6 10 rfl rfl)
theorem dL_law_294 : decode cL_law 294 = .ok (.invokevirtual 153, 3) := dk_182 0 153 (dk_at dksL_law_6 11 rfl rfl)
theorem dL_law_297 : decode cL_law 297 = .ok (.iload 6, 2) := dk_21 6 (dk_at dksL_law_6 14 rfl rfl)
theorem dL_law_299 : decode cL_law 299 = .ok (.if_icmp .eq 5, 3) := dk_159 0 5 (dk_at dksL_law_6 16 rfl rfl)
theorem dL_law_302 : decode cL_law 302 = .ok (.iconst 0, 1) := dk_3 (dk_at dksL_law_6 19 rfl rfl)
theorem dL_law_303 : decode cL_law 303 = .ok (.ireturn, 1) := dk_172 (dk_at dksL_law_6 20 rfl rfl)
theorem dL_law_304 : decode cL_law 304 = .ok (.iload 6, 2) := dk_21 6 (dk_at dksL_law_6 21 rfl rfl)
theorem dL_law_306 : decode cL_law 306 = .ok (.ifCond .ne 15, 3) := dk_154 0 15 (dk_at dksL_law_7 0 rfl rfl)
theorem dL_law_309 : decode cL_law 309 = .ok (.aload_n 3, 1) := dk_45 (dk_at dksL_law_7 3 rfl rfl)
theorem dL_law_310 : decode cL_law 310 = .ok (.iconst 0, 1) := dk_3 (dk_at dksL_law_7 4 rfl rfl)
theorem dL_law_311 : decode cL_law 311 = .ok (.laload, 1) := dk_47 (dk_at dksL_law_7 5 rfl rfl)
theorem dL_law_312 : decode cL_law 312 = .ok (.iload 7, 2) := dk_21 7 (dk_at dksL_law_7 6 rfl rfl)
theorem dL_law_314 : decode cL_law 314 = .ok (.i2l, 1) := dk_133 (dk_at dksL_law_7 8 rfl rfl)
theorem dL_law_315 : decode cL_law 315 = .ok (.lcmp, 1) := dk_148 (dk_at dksL_law_7 9 rfl rfl)
theorem dL_law_316 : decode cL_law 316 = .ok (.ifCond .eq 5, 3) := dk_153 0 5 (dk_at dksL_law_7 10 rfl rfl)
theorem dL_law_319 : decode cL_law 319 = .ok (.iconst 0, 1) := dk_3 (dk_at dksL_law_7 13 rfl rfl)
theorem dL_law_320 : decode cL_law 320 = .ok (.ireturn, 1) := dk_172 (dk_at dksL_law_7 14 rfl rfl)
theorem dL_law_321 : decode cL_law 321 = .ok (.goto 2125, 3) := dk_167 8 77 (dk_at dksL_law_7 15 rfl rfl)
theorem dL_law_324 : decode cL_law 324 = .ok (.aload_n 1, 1) := dk_43 (dk_at dksL_law_7 18 rfl rfl)
theorem dL_law_325 : decode cL_law 325 = .ok (.aload_n 0, 1) := dk_42 (dk_at dksL_law_7 19 rfl rfl)
theorem dL_law_326 : decode cL_law 326 = .ok (.iload 5, 2) := dk_21 5 (dk_at dksL_law_7 20 rfl rfl)
theorem dL_law_328 : decode cL_law 328 = .ok (.iconst 1, 1) := dk_4 (dk_at dksL_law_7 22 rfl rfl)
theorem dL_law_329 : decode cL_law 329 = .ok (.iadd, 1) := dk_96 (dk_at dksL_law_7 23 rfl rfl)
theorem dL_law_330 : decode cL_law 330 = .ok (.iaload, 1) := dk_46 (dk_at dksL_law_8 0 rfl rfl)
theorem dL_law_331 : decode cL_law 331 = .ok (.aload_n 3, 1) := dk_45 (dk_at dksL_law_8 1 rfl rfl)
theorem dL_law_332 : decode cL_law 332 = .ok (.invokestatic 160, 3) := dk_184 0 160 (dk_at dksL_law_8 2 rfl rfl)
theorem dL_law_335 : decode cL_law 335 = .ok (.istore 6, 2) := dk_54 6 (dk_at dksL_law_8 5 rfl rfl)
theorem dL_law_337 : decode cL_law 337 = .ok (.aload_n 2, 1) := dk_44 (dk_at dksL_law_8 7 rfl rfl)
theorem dL_law_338 : decode cL_law 338 = .ok (.aload_n 0, 1) := dk_42 (dk_at dksL_law_8 8 rfl rfl)
theorem dL_law_339 : decode cL_law 339 = .ok (.iload 5, 2) := dk_21 5 (dk_at dksL_law_8 9 rfl rfl)
theorem dL_law_341 : decode cL_law 341 = .ok (.iconst 1, 1) := dk_4 (dk_at dksL_law_8 11 rfl rfl)
theorem dL_law_342 : decode cL_law 342 = .ok (.iadd, 1) := dk_96 (dk_at dksL_law_8 12 rfl rfl)
theorem dL_law_343 : decode cL_law 343 = .ok (.iaload, 1) := dk_46 (dk_at dksL_law_8 13 rfl rfl)
theorem dL_law_344 : decode cL_law 344 = .ok (.invokevirtual 163, 3) := dk_182 0 163 (dk_at dksL_law_8 14 rfl rfl)
theorem dL_law_347 : decode cL_law 347 = .ok (.istore 7, 2) := dk_54 7 (dk_at dksL_law_8 17 rfl rfl)
theorem dL_law_349 : decode cL_law 349 = .ok (.aload_n 2, 1) := dk_44 (dk_at dksL_law_8 19 rfl rfl)
theorem dL_law_350 : decode cL_law 350 = .ok (.invokevirtual 153, 3) := dk_182 0 153 (dk_at dksL_law_8 20 rfl rfl)
theorem dL_law_353 : decode cL_law 353 = .ok (.iload 6, 2) := dk_21 6 (dk_at dksL_law_9 0 rfl rfl)
theorem dL_law_355 : decode cL_law 355 = .ok (.if_icmp .eq 5, 3) := dk_159 0 5 (dk_at dksL_law_9 2 rfl rfl)
theorem dL_law_358 : decode cL_law 358 = .ok (.iconst 0, 1) := dk_3 (dk_at dksL_law_9 5 rfl rfl)
theorem dL_law_359 : decode cL_law 359 = .ok (.ireturn, 1) := dk_172 (dk_at dksL_law_9 6 rfl rfl)
theorem dL_law_360 : decode cL_law 360 = .ok (.iload 6, 2) := dk_21 6 (dk_at dksL_law_9 7 rfl rfl)
theorem dL_law_362 : decode cL_law 362 = .ok (.ifCond .ne 15, 3) := dk_154 0 15 (dk_at dksL_law_9 9 rfl rfl)
theorem dL_law_365 : decode cL_law 365 = .ok (.aload_n 3, 1) := dk_45 (dk_at dksL_law_9 12 rfl rfl)
theorem dL_law_366 : decode cL_law 366 = .ok (.iconst 0, 1) := dk_3 (dk_at dksL_law_9 13 rfl rfl)
theorem dL_law_367 : decode cL_law 367 = .ok (.laload, 1) := dk_47 (dk_at dksL_law_9 14 rfl rfl)
theorem dL_law_368 : decode cL_law 368 = .ok (.iload 7, 2) := dk_21 7 (dk_at dksL_law_9 15 rfl rfl)
theorem dL_law_370 : decode cL_law 370 = .ok (.i2l, 1) := dk_133 (dk_at dksL_law_9 17 rfl rfl)
theorem dL_law_371 : decode cL_law 371 = .ok (.lcmp, 1) := dk_148 (dk_at dksL_law_9 18 rfl rfl)
theorem dL_law_372 : decode cL_law 372 = .ok (.ifCond .eq 5, 3) := dk_153 0 5 (dk_at dksL_law_9 19 rfl rfl)
theorem dL_law_375 : decode cL_law 375 = .ok (.iconst 0, 1) := dk_3 (dk_at dksL_law_9 22 rfl rfl)
theorem dL_law_376 : decode cL_law 376 = .ok (.ireturn, 1) := dk_172 (dk_at dksL_law_9 23 rfl rfl)
theorem dL_law_377 : decode cL_law 377 = .ok (.goto 2069, 3) := dk_167 8 21 (dk_at dksL_law_10 0 rfl rfl)
theorem dL_law_380 : decode cL_law 380 = .ok (.aload_n 1, 1) := dk_43 (dk_at dksL_law_10 3 rfl rfl)
theorem dL_law_381 : decode cL_law 381 = .ok (.aload_n 0, 1) := dk_42 (dk_at dksL_law_10 4 rfl rfl)
theorem dL_law_382 : decode cL_law 382 = .ok (.iload 5, 2) := dk_21 5 (dk_at dksL_law_10 5 rfl rfl)
theorem dL_law_384 : decode cL_law 384 = .ok (.iconst 1, 1) := dk_4 (dk_at dksL_law_10 7 rfl rfl)
theorem dL_law_385 : decode cL_law 385 = .ok (.iadd, 1) := dk_96 (dk_at dksL_law_10 8 rfl rfl)
theorem dL_law_386 : decode cL_law 386 = .ok (.iaload, 1) := dk_46 (dk_at dksL_law_10 9 rfl rfl)
theorem dL_law_387 : decode cL_law 387 = .ok (.aload_n 0, 1) := dk_42 (dk_at dksL_law_10 10 rfl rfl)
theorem dL_law_388 : decode cL_law 388 = .ok (.iload 5, 2) := dk_21 5 (dk_at dksL_law_10 11 rfl rfl)
theorem dL_law_390 : decode cL_law 390 = .ok (.iconst 2, 1) := dk_5 (dk_at dksL_law_10 13 rfl rfl)
theorem dL_law_391 : decode cL_law 391 = .ok (.iadd, 1) := dk_96 (dk_at dksL_law_10 14 rfl rfl)
theorem dL_law_392 : decode cL_law 392 = .ok (.iaload, 1) := dk_46 (dk_at dksL_law_10 15 rfl rfl)
theorem dL_law_393 : decode cL_law 393 = .ok (.aload_n 3, 1) := dk_45 (dk_at dksL_law_10 16 rfl rfl)
theorem dL_law_394 : decode cL_law 394 = .ok (.invokestatic 164, 3) := dk_184 0 164 (dk_at dksL_law_10 17 rfl rfl)
theorem dL_law_397 : decode cL_law 397 = .ok (.istore 6, 2) := dk_54 6 (dk_at dksL_law_10 20 rfl rfl)
theorem dL_law_399 : decode cL_law 399 = .ok (.aload_n 2, 1) := dk_44 (dk_at dksL_law_10 22 rfl rfl)
theorem dL_law_400 : decode cL_law 400 = .ok (.aload_n 0, 1) := dk_42 (dk_at dksL_law_10 23 rfl rfl)
theorem dL_law_401 : decode cL_law 401 = .ok (.iload 5, 2) := dk_21 5 (dk_at dksL_law_11 0 rfl rfl)
theorem dL_law_403 : decode cL_law 403 = .ok (.iconst 1, 1) := dk_4 (dk_at dksL_law_11 2 rfl rfl)
theorem dL_law_404 : decode cL_law 404 = .ok (.iadd, 1) := dk_96 (dk_at dksL_law_11 3 rfl rfl)
theorem dL_law_405 : decode cL_law 405 = .ok (.iaload, 1) := dk_46 (dk_at dksL_law_11 4 rfl rfl)
theorem dL_law_406 : decode cL_law 406 = .ok (.aload_n 0, 1) := dk_42 (dk_at dksL_law_11 5 rfl rfl)
theorem dL_law_407 : decode cL_law 407 = .ok (.iload 5, 2) := dk_21 5 (dk_at dksL_law_11 6 rfl rfl)
theorem dL_law_409 : decode cL_law 409 = .ok (.iconst 2, 1) := dk_5 (dk_at dksL_law_11 8 rfl rfl)
theorem dL_law_410 : decode cL_law 410 = .ok (.iadd, 1) := dk_96 (dk_at dksL_law_11 9 rfl rfl)
theorem dL_law_411 : decode cL_law 411 = .ok (.iaload, 1) := dk_46 (dk_at dksL_law_11 10 rfl rfl)
theorem dL_law_412 : decode cL_law 412 = .ok (.invokevirtual 166, 3) := dk_182 0 166 (dk_at dksL_law_11 11 rfl rfl)
theorem dL_law_415 : decode cL_law 415 = .ok (.istore 7, 2) := dk_54 7 (dk_at dksL_law_11 14 rfl rfl)
theorem dL_law_417 : decode cL_law 417 = .ok (.aload_n 2, 1) := dk_44 (dk_at dksL_law_11 16 rfl rfl)
theorem dL_law_418 : decode cL_law 418 = .ok (.invokevirtual 153, 3) := dk_182 0 153 (dk_at dksL_law_11 17 rfl rfl)
theorem dL_law_421 : decode cL_law 421 = .ok (.iload 6, 2) := dk_21 6 (dk_at dksL_law_11 20 rfl rfl)
theorem dL_law_423 : decode cL_law 423 = .ok (.if_icmp .eq 5, 3) := dk_159 0 5 (dk_at dksL_law_12 0 rfl rfl)
theorem dL_law_426 : decode cL_law 426 = .ok (.iconst 0, 1) := dk_3 (dk_at dksL_law_12 3 rfl rfl)
theorem dL_law_427 : decode cL_law 427 = .ok (.ireturn, 1) := dk_172 (dk_at dksL_law_12 4 rfl rfl)
theorem dL_law_428 : decode cL_law 428 = .ok (.iload 6, 2) := dk_21 6 (dk_at dksL_law_12 5 rfl rfl)
theorem dL_law_430 : decode cL_law 430 = .ok (.ifCond .ne 15, 3) := dk_154 0 15 (dk_at dksL_law_12 7 rfl rfl)
theorem dL_law_433 : decode cL_law 433 = .ok (.aload_n 3, 1) := dk_45 (dk_at dksL_law_12 10 rfl rfl)
theorem dL_law_434 : decode cL_law 434 = .ok (.iconst 0, 1) := dk_3 (dk_at dksL_law_12 11 rfl rfl)
theorem dL_law_435 : decode cL_law 435 = .ok (.laload, 1) := dk_47 (dk_at dksL_law_12 12 rfl rfl)
theorem dL_law_436 : decode cL_law 436 = .ok (.iload 7, 2) := dk_21 7 (dk_at dksL_law_12 13 rfl rfl)
theorem dL_law_438 : decode cL_law 438 = .ok (.i2l, 1) := dk_133 (dk_at dksL_law_12 15 rfl rfl)
theorem dL_law_439 : decode cL_law 439 = .ok (.lcmp, 1) := dk_148 (dk_at dksL_law_12 16 rfl rfl)
theorem dL_law_440 : decode cL_law 440 = .ok (.ifCond .eq 5, 3) := dk_153 0 5 (dk_at dksL_law_12 17 rfl rfl)
theorem dL_law_443 : decode cL_law 443 = .ok (.iconst 0, 1) := dk_3 (dk_at dksL_law_12 20 rfl rfl)
theorem dL_law_444 : decode cL_law 444 = .ok (.ireturn, 1) := dk_172 (dk_at dksL_law_12 21 rfl rfl)
theorem dL_law_445 : decode cL_law 445 = .ok (.goto 2001, 3) := dk_167 7 209 (dk_at dksL_law_13 0 rfl rfl)
theorem dL_law_448 : decode cL_law 448 = .ok (.aload_n 1, 1) := dk_43 (dk_at dksL_law_13 3 rfl rfl)
theorem dL_law_449 : decode cL_law 449 = .ok (.aload_n 0, 1) := dk_42 (dk_at dksL_law_13 4 rfl rfl)
theorem dL_law_450 : decode cL_law 450 = .ok (.iload 5, 2) := dk_21 5 (dk_at dksL_law_13 5 rfl rfl)
theorem dL_law_452 : decode cL_law 452 = .ok (.iconst 1, 1) := dk_4 (dk_at dksL_law_13 7 rfl rfl)
theorem dL_law_453 : decode cL_law 453 = .ok (.iadd, 1) := dk_96 (dk_at dksL_law_13 8 rfl rfl)
theorem dL_law_454 : decode cL_law 454 = .ok (.iaload, 1) := dk_46 (dk_at dksL_law_13 9 rfl rfl)
theorem dL_law_455 : decode cL_law 455 = .ok (.aload_n 0, 1) := dk_42 (dk_at dksL_law_13 10 rfl rfl)
theorem dL_law_456 : decode cL_law 456 = .ok (.iload 5, 2) := dk_21 5 (dk_at dksL_law_13 11 rfl rfl)
theorem dL_law_458 : decode cL_law 458 = .ok (.iconst 2, 1) := dk_5 (dk_at dksL_law_13 13 rfl rfl)
theorem dL_law_459 : decode cL_law 459 = .ok (.iadd, 1) := dk_96 (dk_at dksL_law_13 14 rfl rfl)
theorem dL_law_460 : decode cL_law 460 = .ok (.iaload, 1) := dk_46 (dk_at dksL_law_13 15 rfl rfl)
theorem dL_law_461 : decode cL_law 461 = .ok (.aload_n 3, 1) := dk_45 (dk_at dksL_law_13 16 rfl rfl)
theorem dL_law_462 : decode cL_law 462 = .ok (.invokestatic 167, 3) := dk_184 0 167 (dk_at dksL_law_13 17 rfl rfl)
theorem dL_law_465 : decode cL_law 465 = .ok (.istore 6, 2) := dk_54 6 (dk_at dksL_law_13 20 rfl rfl)
theorem dL_law_467 : decode cL_law 467 = .ok (.aload_n 2, 1) := dk_44 (dk_at dksL_law_13 22 rfl rfl)
theorem dL_law_468 : decode cL_law 468 = .ok (.aload_n 0, 1) := dk_42 (dk_at dksL_law_13 23 rfl rfl)
theorem dL_law_469 : decode cL_law 469 = .ok (.iload 5, 2) := dk_21 5 (dk_at dksL_law_14 0 rfl rfl)
theorem dL_law_471 : decode cL_law 471 = .ok (.iconst 1, 1) := dk_4 (dk_at dksL_law_14 2 rfl rfl)
theorem dL_law_472 : decode cL_law 472 = .ok (.iadd, 1) := dk_96 (dk_at dksL_law_14 3 rfl rfl)
theorem dL_law_473 : decode cL_law 473 = .ok (.iaload, 1) := dk_46 (dk_at dksL_law_14 4 rfl rfl)
theorem dL_law_474 : decode cL_law 474 = .ok (.aload_n 0, 1) := dk_42 (dk_at dksL_law_14 5 rfl rfl)
theorem dL_law_475 : decode cL_law 475 = .ok (.iload 5, 2) := dk_21 5 (dk_at dksL_law_14 6 rfl rfl)
theorem dL_law_477 : decode cL_law 477 = .ok (.iconst 2, 1) := dk_5 (dk_at dksL_law_14 8 rfl rfl)
theorem dL_law_478 : decode cL_law 478 = .ok (.iadd, 1) := dk_96 (dk_at dksL_law_14 9 rfl rfl)
theorem dL_law_479 : decode cL_law 479 = .ok (.iaload, 1) := dk_46 (dk_at dksL_law_14 10 rfl rfl)
theorem dL_law_480 : decode cL_law 480 = .ok (.invokevirtual 169, 3) := dk_182 0 169 (dk_at dksL_law_14 11 rfl rfl)
theorem dL_law_483 : decode cL_law 483 = .ok (.istore 7, 2) := dk_54 7 (dk_at dksL_law_14 14 rfl rfl)
theorem dL_law_485 : decode cL_law 485 = .ok (.aload_n 2, 1) := dk_44 (dk_at dksL_law_14 16 rfl rfl)
theorem dL_law_486 : decode cL_law 486 = .ok (.invokevirtual 153, 3) := dk_182 0 153 (dk_at dksL_law_14 17 rfl rfl)
theorem dL_law_489 : decode cL_law 489 = .ok (.iload 6, 2) := dk_21 6 (dk_at dksL_law_14 20 rfl rfl)
theorem dL_law_491 : decode cL_law 491 = .ok (.if_icmp .eq 5, 3) := dk_159 0 5 (dk_at dksL_law_15 0 rfl rfl)
theorem dL_law_494 : decode cL_law 494 = .ok (.iconst 0, 1) := dk_3 (dk_at dksL_law_15 3 rfl rfl)
theorem dL_law_495 : decode cL_law 495 = .ok (.ireturn, 1) := dk_172 (dk_at dksL_law_15 4 rfl rfl)
theorem dL_law_496 : decode cL_law 496 = .ok (.iload 6, 2) := dk_21 6 (dk_at dksL_law_15 5 rfl rfl)
theorem dL_law_498 : decode cL_law 498 = .ok (.ifCond .ne 15, 3) := dk_154 0 15 (dk_at dksL_law_15 7 rfl rfl)
theorem dL_law_501 : decode cL_law 501 = .ok (.aload_n 3, 1) := dk_45 (dk_at dksL_law_15 10 rfl rfl)
theorem dL_law_502 : decode cL_law 502 = .ok (.iconst 0, 1) := dk_3 (dk_at dksL_law_15 11 rfl rfl)
theorem dL_law_503 : decode cL_law 503 = .ok (.laload, 1) := dk_47 (dk_at dksL_law_15 12 rfl rfl)
theorem dL_law_504 : decode cL_law 504 = .ok (.iload 7, 2) := dk_21 7 (dk_at dksL_law_15 13 rfl rfl)
theorem dL_law_506 : decode cL_law 506 = .ok (.i2l, 1) := dk_133 (dk_at dksL_law_15 15 rfl rfl)
theorem dL_law_507 : decode cL_law 507 = .ok (.lcmp, 1) := dk_148 (dk_at dksL_law_15 16 rfl rfl)
theorem dL_law_508 : decode cL_law 508 = .ok (.ifCond .eq 5, 3) := dk_153 0 5 (dk_at dksL_law_15 17 rfl rfl)
theorem dL_law_511 : decode cL_law 511 = .ok (.iconst 0, 1) := dk_3 (dk_at dksL_law_15 20 rfl rfl)
theorem dL_law_512 : decode cL_law 512 = .ok (.ireturn, 1) := dk_172 (dk_at dksL_law_15 21 rfl rfl)
theorem dL_law_513 : decode cL_law 513 = .ok (.goto 1933, 3) := dk_167 7 141 (dk_at dksL_law_16 0 rfl rfl)
theorem dL_law_516 : decode cL_law 516 = .ok (.aload_n 1, 1) := dk_43 (dk_at dksL_law_16 3 rfl rfl)
theorem dL_law_517 : decode cL_law 517 = .ok (.aload_n 0, 1) := dk_42 (dk_at dksL_law_16 4 rfl rfl)
theorem dL_law_518 : decode cL_law 518 = .ok (.iload 5, 2) := dk_21 5 (dk_at dksL_law_16 5 rfl rfl)
theorem dL_law_520 : decode cL_law 520 = .ok (.iconst 1, 1) := dk_4 (dk_at dksL_law_16 7 rfl rfl)
theorem dL_law_521 : decode cL_law 521 = .ok (.iadd, 1) := dk_96 (dk_at dksL_law_16 8 rfl rfl)
theorem dL_law_522 : decode cL_law 522 = .ok (.iaload, 1) := dk_46 (dk_at dksL_law_16 9 rfl rfl)
theorem dL_law_523 : decode cL_law 523 = .ok (.aload_n 3, 1) := dk_45 (dk_at dksL_law_16 10 rfl rfl)
theorem dL_law_524 : decode cL_law 524 = .ok (.invokestatic 170, 3) := dk_184 0 170 (dk_at dksL_law_16 11 rfl rfl)
theorem dL_law_527 : decode cL_law 527 = .ok (.istore 6, 2) := dk_54 6 (dk_at dksL_law_16 14 rfl rfl)
theorem dL_law_529 : decode cL_law 529 = .ok (.aload_n 2, 1) := dk_44 (dk_at dksL_law_16 16 rfl rfl)
theorem dL_law_530 : decode cL_law 530 = .ok (.aload_n 0, 1) := dk_42 (dk_at dksL_law_16 17 rfl rfl)
theorem dL_law_531 : decode cL_law 531 = .ok (.iload 5, 2) := dk_21 5 (dk_at dksL_law_16 18 rfl rfl)
theorem dL_law_533 : decode cL_law 533 = .ok (.iconst 1, 1) := dk_4 (dk_at dksL_law_16 20 rfl rfl)
theorem dL_law_534 : decode cL_law 534 = .ok (.iadd, 1) := dk_96 (dk_at dksL_law_16 21 rfl rfl)
theorem dL_law_535 : decode cL_law 535 = .ok (.iaload, 1) := dk_46 (dk_at dksL_law_16 22 rfl rfl)
theorem dL_law_536 : decode cL_law 536 = .ok (.invokevirtual 172, 3) := dk_182 0 172 (dk_at dksL_law_17 0 rfl rfl)
theorem dL_law_539 : decode cL_law 539 = .ok (.istore 7, 2) := dk_54 7 (dk_at dksL_law_17 3 rfl rfl)
theorem dL_law_541 : decode cL_law 541 = .ok (.aload_n 2, 1) := dk_44 (dk_at dksL_law_17 5 rfl rfl)
theorem dL_law_542 : decode cL_law 542 = .ok (.invokevirtual 153, 3) := dk_182 0 153 (dk_at dksL_law_17 6 rfl rfl)
theorem dL_law_545 : decode cL_law 545 = .ok (.iload 6, 2) := dk_21 6 (dk_at dksL_law_17 9 rfl rfl)
theorem dL_law_547 : decode cL_law 547 = .ok (.if_icmp .eq 5, 3) := dk_159 0 5 (dk_at dksL_law_17 11 rfl rfl)
theorem dL_law_550 : decode cL_law 550 = .ok (.iconst 0, 1) := dk_3 (dk_at dksL_law_17 14 rfl rfl)
theorem dL_law_551 : decode cL_law 551 = .ok (.ireturn, 1) := dk_172 (dk_at dksL_law_17 15 rfl rfl)
theorem dL_law_552 : decode cL_law 552 = .ok (.iload 6, 2) := dk_21 6 (dk_at dksL_law_17 16 rfl rfl)
theorem dL_law_554 : decode cL_law 554 = .ok (.ifCond .ne 15, 3) := dk_154 0 15 (dk_at dksL_law_17 18 rfl rfl)
theorem dL_law_557 : decode cL_law 557 = .ok (.aload_n 3, 1) := dk_45 (dk_at dksL_law_17 21 rfl rfl)
theorem dL_law_558 : decode cL_law 558 = .ok (.iconst 0, 1) := dk_3 (dk_at dksL_law_17 22 rfl rfl)
theorem dL_law_559 : decode cL_law 559 = .ok (.laload, 1) := dk_47 (dk_at dksL_law_17 23 rfl rfl)
theorem dL_law_560 : decode cL_law 560 = .ok (.iload 7, 2) := dk_21 7 (dk_at dksL_law_18 0 rfl rfl)
theorem dL_law_562 : decode cL_law 562 = .ok (.i2l, 1) := dk_133 (dk_at dksL_law_18 2 rfl rfl)
theorem dL_law_563 : decode cL_law 563 = .ok (.lcmp, 1) := dk_148 (dk_at dksL_law_18 3 rfl rfl)
theorem dL_law_564 : decode cL_law 564 = .ok (.ifCond .eq 5, 3) := dk_153 0 5 (dk_at dksL_law_18 4 rfl rfl)
theorem dL_law_567 : decode cL_law 567 = .ok (.iconst 0, 1) := dk_3 (dk_at dksL_law_18 7 rfl rfl)
theorem dL_law_568 : decode cL_law 568 = .ok (.ireturn, 1) := dk_172 (dk_at dksL_law_18 8 rfl rfl)
theorem dL_law_569 : decode cL_law 569 = .ok (.goto 1877, 3) := dk_167 7 85 (dk_at dksL_law_18 9 rfl rfl)
theorem dL_law_572 : decode cL_law 572 = .ok (.aload_n 1, 1) := dk_43 (dk_at dksL_law_18 12 rfl rfl)
theorem dL_law_573 : decode cL_law 573 = .ok (.aload_n 0, 1) := dk_42 (dk_at dksL_law_18 13 rfl rfl)
theorem dL_law_574 : decode cL_law 574 = .ok (.iload 5, 2) := dk_21 5 (dk_at dksL_law_18 14 rfl rfl)
theorem dL_law_576 : decode cL_law 576 = .ok (.iconst 1, 1) := dk_4 (dk_at dksL_law_18 16 rfl rfl)
theorem dL_law_577 : decode cL_law 577 = .ok (.iadd, 1) := dk_96 (dk_at dksL_law_18 17 rfl rfl)
theorem dL_law_578 : decode cL_law 578 = .ok (.iaload, 1) := dk_46 (dk_at dksL_law_18 18 rfl rfl)
theorem dL_law_579 : decode cL_law 579 = .ok (.aload_n 3, 1) := dk_45 (dk_at dksL_law_18 19 rfl rfl)
theorem dL_law_580 : decode cL_law 580 = .ok (.invokestatic 173, 3) := dk_184 0 173 (dk_at dksL_law_18 20 rfl rfl)
theorem dL_law_583 : decode cL_law 583 = .ok (.istore 6, 2) := dk_54 6 (dk_at dksL_law_19 0 rfl rfl)
theorem dL_law_585 : decode cL_law 585 = .ok (.aload_n 2, 1) := dk_44 (dk_at dksL_law_19 2 rfl rfl)
theorem dL_law_586 : decode cL_law 586 = .ok (.aload_n 0, 1) := dk_42 (dk_at dksL_law_19 3 rfl rfl)
theorem dL_law_587 : decode cL_law 587 = .ok (.iload 5, 2) := dk_21 5 (dk_at dksL_law_19 4 rfl rfl)
theorem dL_law_589 : decode cL_law 589 = .ok (.iconst 1, 1) := dk_4 (dk_at dksL_law_19 6 rfl rfl)
theorem dL_law_590 : decode cL_law 590 = .ok (.iadd, 1) := dk_96 (dk_at dksL_law_19 7 rfl rfl)
theorem dL_law_591 : decode cL_law 591 = .ok (.iaload, 1) := dk_46 (dk_at dksL_law_19 8 rfl rfl)
theorem dL_law_592 : decode cL_law 592 = .ok (.invokevirtual 175, 3) := dk_182 0 175 (dk_at dksL_law_19 9 rfl rfl)
theorem dL_law_595 : decode cL_law 595 = .ok (.istore 7, 2) := dk_54 7 (dk_at dksL_law_19 12 rfl rfl)
theorem dL_law_597 : decode cL_law 597 = .ok (.aload_n 2, 1) := dk_44 (dk_at dksL_law_19 14 rfl rfl)
theorem dL_law_598 : decode cL_law 598 = .ok (.invokevirtual 153, 3) := dk_182 0 153 (dk_at dksL_law_19 15 rfl rfl)
theorem dL_law_601 : decode cL_law 601 = .ok (.iload 6, 2) := dk_21 6 (dk_at dksL_law_19 18 rfl rfl)
theorem dL_law_603 : decode cL_law 603 = .ok (.if_icmp .eq 5, 3) := dk_159 0 5 (dk_at dksL_law_19 20 rfl rfl)
theorem dL_law_606 : decode cL_law 606 = .ok (.iconst 0, 1) := dk_3 (dk_at dksL_law_19 23 rfl rfl)
theorem dL_law_607 : decode cL_law 607 = .ok (.ireturn, 1) := dk_172 (dk_at dksL_law_20 0 rfl rfl)
theorem dL_law_608 : decode cL_law 608 = .ok (.iload 6, 2) := dk_21 6 (dk_at dksL_law_20 1 rfl rfl)
theorem dL_law_610 : decode cL_law 610 = .ok (.ifCond .ne 15, 3) := dk_154 0 15 (dk_at dksL_law_20 3 rfl rfl)
theorem dL_law_613 : decode cL_law 613 = .ok (.aload_n 3, 1) := dk_45 (dk_at dksL_law_20 6 rfl rfl)
theorem dL_law_614 : decode cL_law 614 = .ok (.iconst 0, 1) := dk_3 (dk_at dksL_law_20 7 rfl rfl)
theorem dL_law_615 : decode cL_law 615 = .ok (.laload, 1) := dk_47 (dk_at dksL_law_20 8 rfl rfl)
theorem dL_law_616 : decode cL_law 616 = .ok (.iload 7, 2) := dk_21 7 (dk_at dksL_law_20 9 rfl rfl)
theorem dL_law_618 : decode cL_law 618 = .ok (.i2l, 1) := dk_133 (dk_at dksL_law_20 11 rfl rfl)
theorem dL_law_619 : decode cL_law 619 = .ok (.lcmp, 1) := dk_148 (dk_at dksL_law_20 12 rfl rfl)
theorem dL_law_620 : decode cL_law 620 = .ok (.ifCond .eq 5, 3) := dk_153 0 5 (dk_at dksL_law_20 13 rfl rfl)
theorem dL_law_623 : decode cL_law 623 = .ok (.iconst 0, 1) := dk_3 (dk_at dksL_law_20 16 rfl rfl)
theorem dL_law_624 : decode cL_law 624 = .ok (.ireturn, 1) := dk_172 (dk_at dksL_law_20 17 rfl rfl)
theorem dL_law_625 : decode cL_law 625 = .ok (.goto 1821, 3) := dk_167 7 29 (dk_at dksL_law_20 18 rfl rfl)
theorem dL_law_628 : decode cL_law 628 = .ok (.aload_n 1, 1) := dk_43 (dk_at dksL_law_20 21 rfl rfl)
theorem dL_law_629 : decode cL_law 629 = .ok (.aload_n 3, 1) := dk_45 (dk_at dksL_law_20 22 rfl rfl)
theorem dL_law_630 : decode cL_law 630 = .ok (.invokestatic 176, 3) := dk_184 0 176 (dk_at dksL_law_21 0 rfl rfl)
theorem dL_law_633 : decode cL_law 633 = .ok (.istore 6, 2) := dk_54 6 (dk_at dksL_law_21 3 rfl rfl)
theorem dL_law_635 : decode cL_law 635 = .ok (.aload_n 2, 1) := dk_44 (dk_at dksL_law_21 5 rfl rfl)
theorem dL_law_636 : decode cL_law 636 = .ok (.invokevirtual 178, 3) := dk_182 0 178 (dk_at dksL_law_21 6 rfl rfl)
theorem dL_law_639 : decode cL_law 639 = .ok (.istore 7, 2) := dk_54 7 (dk_at dksL_law_21 9 rfl rfl)
theorem dL_law_641 : decode cL_law 641 = .ok (.aload_n 2, 1) := dk_44 (dk_at dksL_law_21 11 rfl rfl)
theorem dL_law_642 : decode cL_law 642 = .ok (.invokevirtual 153, 3) := dk_182 0 153 (dk_at dksL_law_21 12 rfl rfl)
theorem dL_law_645 : decode cL_law 645 = .ok (.iload 6, 2) := dk_21 6 (dk_at dksL_law_21 15 rfl rfl)
theorem dL_law_647 : decode cL_law 647 = .ok (.if_icmp .eq 5, 3) := dk_159 0 5 (dk_at dksL_law_21 17 rfl rfl)
theorem dL_law_650 : decode cL_law 650 = .ok (.iconst 0, 1) := dk_3 (dk_at dksL_law_21 20 rfl rfl)
theorem dL_law_651 : decode cL_law 651 = .ok (.ireturn, 1) := dk_172 (dk_at dksL_law_21 21 rfl rfl)
theorem dL_law_652 : decode cL_law 652 = .ok (.iload 6, 2) := dk_21 6 (dk_at dksL_law_21 22 rfl rfl)
theorem dL_law_654 : decode cL_law 654 = .ok (.ifCond .ne 15, 3) := dk_154 0 15 (dk_at dksL_law_22 0 rfl rfl)
theorem dL_law_657 : decode cL_law 657 = .ok (.aload_n 3, 1) := dk_45 (dk_at dksL_law_22 3 rfl rfl)
theorem dL_law_658 : decode cL_law 658 = .ok (.iconst 0, 1) := dk_3 (dk_at dksL_law_22 4 rfl rfl)
theorem dL_law_659 : decode cL_law 659 = .ok (.laload, 1) := dk_47 (dk_at dksL_law_22 5 rfl rfl)
theorem dL_law_660 : decode cL_law 660 = .ok (.iload 7, 2) := dk_21 7 (dk_at dksL_law_22 6 rfl rfl)
theorem dL_law_662 : decode cL_law 662 = .ok (.i2l, 1) := dk_133 (dk_at dksL_law_22 8 rfl rfl)
theorem dL_law_663 : decode cL_law 663 = .ok (.lcmp, 1) := dk_148 (dk_at dksL_law_22 9 rfl rfl)
theorem dL_law_664 : decode cL_law 664 = .ok (.ifCond .eq 5, 3) := dk_153 0 5 (dk_at dksL_law_22 10 rfl rfl)
theorem dL_law_667 : decode cL_law 667 = .ok (.iconst 0, 1) := dk_3 (dk_at dksL_law_22 13 rfl rfl)
theorem dL_law_668 : decode cL_law 668 = .ok (.ireturn, 1) := dk_172 (dk_at dksL_law_22 14 rfl rfl)
theorem dL_law_669 : decode cL_law 669 = .ok (.goto 1777, 3) := dk_167 6 241 (dk_at dksL_law_22 15 rfl rfl)
theorem dL_law_672 : decode cL_law 672 = .ok (.aload_n 1, 1) := dk_43 (dk_at dksL_law_22 18 rfl rfl)
theorem dL_law_673 : decode cL_law 673 = .ok (.aload_n 0, 1) := dk_42 (dk_at dksL_law_22 19 rfl rfl)
theorem dL_law_674 : decode cL_law 674 = .ok (.iload 5, 2) := dk_21 5 (dk_at dksL_law_22 20 rfl rfl)
theorem dL_law_676 : decode cL_law 676 = .ok (.iconst 1, 1) := dk_4 (dk_at dksL_law_22 22 rfl rfl)
theorem dL_law_677 : decode cL_law 677 = .ok (.iadd, 1) := dk_96 (dk_at dksL_law_22 23 rfl rfl)
theorem dL_law_678 : decode cL_law 678 = .ok (.iaload, 1) := dk_46 (dk_at dksL_law_23 0 rfl rfl)
theorem dL_law_679 : decode cL_law 679 = .ok (.aload_n 0, 1) := dk_42 (dk_at dksL_law_23 1 rfl rfl)
theorem dL_law_680 : decode cL_law 680 = .ok (.iload 5, 2) := dk_21 5 (dk_at dksL_law_23 2 rfl rfl)
theorem dL_law_682 : decode cL_law 682 = .ok (.iconst 2, 1) := dk_5 (dk_at dksL_law_23 4 rfl rfl)
theorem dL_law_683 : decode cL_law 683 = .ok (.iadd, 1) := dk_96 (dk_at dksL_law_23 5 rfl rfl)
theorem dL_law_684 : decode cL_law 684 = .ok (.iaload, 1) := dk_46 (dk_at dksL_law_23 6 rfl rfl)
theorem dL_law_685 : decode cL_law 685 = .ok (.aload_n 3, 1) := dk_45 (dk_at dksL_law_23 7 rfl rfl)
theorem dL_law_686 : decode cL_law 686 = .ok (.invokestatic 179, 3) := dk_184 0 179 (dk_at dksL_law_23 8 rfl rfl)
theorem dL_law_689 : decode cL_law 689 = .ok (.istore 6, 2) := dk_54 6 (dk_at dksL_law_23 11 rfl rfl)
theorem dL_law_691 : decode cL_law 691 = .ok (.aload_n 2, 1) := dk_44 (dk_at dksL_law_23 13 rfl rfl)
theorem dL_law_692 : decode cL_law 692 = .ok (.aload_n 0, 1) := dk_42 (dk_at dksL_law_23 14 rfl rfl)
theorem dL_law_693 : decode cL_law 693 = .ok (.iload 5, 2) := dk_21 5 (dk_at dksL_law_23 15 rfl rfl)
theorem dL_law_695 : decode cL_law 695 = .ok (.iconst 1, 1) := dk_4 (dk_at dksL_law_23 17 rfl rfl)
theorem dL_law_696 : decode cL_law 696 = .ok (.iadd, 1) := dk_96 (dk_at dksL_law_23 18 rfl rfl)
theorem dL_law_697 : decode cL_law 697 = .ok (.iaload, 1) := dk_46 (dk_at dksL_law_23 19 rfl rfl)
theorem dL_law_698 : decode cL_law 698 = .ok (.aload_n 0, 1) := dk_42 (dk_at dksL_law_23 20 rfl rfl)
theorem dL_law_699 : decode cL_law 699 = .ok (.iload 5, 2) := dk_21 5 (dk_at dksL_law_23 21 rfl rfl)
theorem dL_law_701 : decode cL_law 701 = .ok (.iconst 2, 1) := dk_5 (dk_at dksL_law_23 23 rfl rfl)
theorem dL_law_702 : decode cL_law 702 = .ok (.iadd, 1) := dk_96 (dk_at dksL_law_24 0 rfl rfl)
theorem dL_law_703 : decode cL_law 703 = .ok (.iaload, 1) := dk_46 (dk_at dksL_law_24 1 rfl rfl)
theorem dL_law_704 : decode cL_law 704 = .ok (.invokevirtual 181, 3) := dk_182 0 181 (dk_at dksL_law_24 2 rfl rfl)
theorem dL_law_707 : decode cL_law 707 = .ok (.istore 7, 2) := dk_54 7 (dk_at dksL_law_24 5 rfl rfl)
theorem dL_law_709 : decode cL_law 709 = .ok (.aload_n 2, 1) := dk_44 (dk_at dksL_law_24 7 rfl rfl)
theorem dL_law_710 : decode cL_law 710 = .ok (.invokevirtual 153, 3) := dk_182 0 153 (dk_at dksL_law_24 8 rfl rfl)
theorem dL_law_713 : decode cL_law 713 = .ok (.iload 6, 2) := dk_21 6 (dk_at dksL_law_24 11 rfl rfl)
theorem dL_law_715 : decode cL_law 715 = .ok (.if_icmp .eq 5, 3) := dk_159 0 5 (dk_at dksL_law_24 13 rfl rfl)
theorem dL_law_718 : decode cL_law 718 = .ok (.iconst 0, 1) := dk_3 (dk_at dksL_law_24 16 rfl rfl)
theorem dL_law_719 : decode cL_law 719 = .ok (.ireturn, 1) := dk_172 (dk_at dksL_law_24 17 rfl rfl)
theorem dL_law_720 : decode cL_law 720 = .ok (.iload 6, 2) := dk_21 6 (dk_at dksL_law_24 18 rfl rfl)
theorem dL_law_722 : decode cL_law 722 = .ok (.ifCond .ne 15, 3) := dk_154 0 15 (dk_at dksL_law_24 20 rfl rfl)
theorem dL_law_725 : decode cL_law 725 = .ok (.aload_n 3, 1) := dk_45 (dk_at dksL_law_24 23 rfl rfl)
theorem dL_law_726 : decode cL_law 726 = .ok (.iconst 0, 1) := dk_3 (dk_at dksL_law_25 0 rfl rfl)
theorem dL_law_727 : decode cL_law 727 = .ok (.laload, 1) := dk_47 (dk_at dksL_law_25 1 rfl rfl)
theorem dL_law_728 : decode cL_law 728 = .ok (.iload 7, 2) := dk_21 7 (dk_at dksL_law_25 2 rfl rfl)
theorem dL_law_730 : decode cL_law 730 = .ok (.i2l, 1) := dk_133 (dk_at dksL_law_25 4 rfl rfl)
theorem dL_law_731 : decode cL_law 731 = .ok (.lcmp, 1) := dk_148 (dk_at dksL_law_25 5 rfl rfl)
theorem dL_law_732 : decode cL_law 732 = .ok (.ifCond .eq 5, 3) := dk_153 0 5 (dk_at dksL_law_25 6 rfl rfl)
theorem dL_law_735 : decode cL_law 735 = .ok (.iconst 0, 1) := dk_3 (dk_at dksL_law_25 9 rfl rfl)
theorem dL_law_736 : decode cL_law 736 = .ok (.ireturn, 1) := dk_172 (dk_at dksL_law_25 10 rfl rfl)
theorem dL_law_737 : decode cL_law 737 = .ok (.goto 1709, 3) := dk_167 6 173 (dk_at dksL_law_25 11 rfl rfl)
theorem dL_law_740 : decode cL_law 740 = .ok (.aload_n 1, 1) := dk_43 (dk_at dksL_law_25 14 rfl rfl)
theorem dL_law_741 : decode cL_law 741 = .ok (.aload_n 0, 1) := dk_42 (dk_at dksL_law_25 15 rfl rfl)
theorem dL_law_742 : decode cL_law 742 = .ok (.iload 5, 2) := dk_21 5 (dk_at dksL_law_25 16 rfl rfl)
theorem dL_law_744 : decode cL_law 744 = .ok (.iconst 1, 1) := dk_4 (dk_at dksL_law_25 18 rfl rfl)
theorem dL_law_745 : decode cL_law 745 = .ok (.iadd, 1) := dk_96 (dk_at dksL_law_25 19 rfl rfl)
theorem dL_law_746 : decode cL_law 746 = .ok (.iaload, 1) := dk_46 (dk_at dksL_law_25 20 rfl rfl)
theorem dL_law_747 : decode cL_law 747 = .ok (.aload_n 0, 1) := dk_42 (dk_at dksL_law_25 21 rfl rfl)
theorem dL_law_748 : decode cL_law 748 = .ok (.iload 5, 2) := dk_21 5 (dk_at dksL_law_25 22 rfl rfl)
theorem dL_law_750 : decode cL_law 750 = .ok (.iconst 2, 1) := dk_5 (dk_at dksL_law_26 0 rfl rfl)
theorem dL_law_751 : decode cL_law 751 = .ok (.iadd, 1) := dk_96 (dk_at dksL_law_26 1 rfl rfl)
theorem dL_law_752 : decode cL_law 752 = .ok (.iaload, 1) := dk_46 (dk_at dksL_law_26 2 rfl rfl)
theorem dL_law_753 : decode cL_law 753 = .ok (.aload_n 3, 1) := dk_45 (dk_at dksL_law_26 3 rfl rfl)
theorem dL_law_754 : decode cL_law 754 = .ok (.invokestatic 182, 3) := dk_184 0 182 (dk_at dksL_law_26 4 rfl rfl)
theorem dL_law_757 : decode cL_law 757 = .ok (.istore 6, 2) := dk_54 6 (dk_at dksL_law_26 7 rfl rfl)
theorem dL_law_759 : decode cL_law 759 = .ok (.aload_n 2, 1) := dk_44 (dk_at dksL_law_26 9 rfl rfl)
theorem dL_law_760 : decode cL_law 760 = .ok (.aload_n 0, 1) := dk_42 (dk_at dksL_law_26 10 rfl rfl)
theorem dL_law_761 : decode cL_law 761 = .ok (.iload 5, 2) := dk_21 5 (dk_at dksL_law_26 11 rfl rfl)
theorem dL_law_763 : decode cL_law 763 = .ok (.iconst 1, 1) := dk_4 (dk_at dksL_law_26 13 rfl rfl)
theorem dL_law_764 : decode cL_law 764 = .ok (.iadd, 1) := dk_96 (dk_at dksL_law_26 14 rfl rfl)
theorem dL_law_765 : decode cL_law 765 = .ok (.iaload, 1) := dk_46 (dk_at dksL_law_26 15 rfl rfl)
theorem dL_law_766 : decode cL_law 766 = .ok (.aload_n 0, 1) := dk_42 (dk_at dksL_law_26 16 rfl rfl)
theorem dL_law_767 : decode cL_law 767 = .ok (.iload 5, 2) := dk_21 5 (dk_at dksL_law_26 17 rfl rfl)
theorem dL_law_769 : decode cL_law 769 = .ok (.iconst 2, 1) := dk_5 (dk_at dksL_law_26 19 rfl rfl)
theorem dL_law_770 : decode cL_law 770 = .ok (.iadd, 1) := dk_96 (dk_at dksL_law_26 20 rfl rfl)
theorem dL_law_771 : decode cL_law 771 = .ok (.iaload, 1) := dk_46 (dk_at dksL_law_26 21 rfl rfl)
theorem dL_law_772 : decode cL_law 772 = .ok (.invokevirtual 184, 3) := dk_182 0 184 (dk_at dksL_law_27 0 rfl rfl)
theorem dL_law_775 : decode cL_law 775 = .ok (.istore 7, 2) := dk_54 7 (dk_at dksL_law_27 3 rfl rfl)
theorem dL_law_777 : decode cL_law 777 = .ok (.aload_n 2, 1) := dk_44 (dk_at dksL_law_27 5 rfl rfl)
theorem dL_law_778 : decode cL_law 778 = .ok (.invokevirtual 153, 3) := dk_182 0 153 (dk_at dksL_law_27 6 rfl rfl)
theorem dL_law_781 : decode cL_law 781 = .ok (.iload 6, 2) := dk_21 6 (dk_at dksL_law_27 9 rfl rfl)
theorem dL_law_783 : decode cL_law 783 = .ok (.if_icmp .eq 5, 3) := dk_159 0 5 (dk_at dksL_law_27 11 rfl rfl)
theorem dL_law_786 : decode cL_law 786 = .ok (.iconst 0, 1) := dk_3 (dk_at dksL_law_27 14 rfl rfl)
theorem dL_law_787 : decode cL_law 787 = .ok (.ireturn, 1) := dk_172 (dk_at dksL_law_27 15 rfl rfl)
theorem dL_law_788 : decode cL_law 788 = .ok (.iload 6, 2) := dk_21 6 (dk_at dksL_law_27 16 rfl rfl)
theorem dL_law_790 : decode cL_law 790 = .ok (.ifCond .ne 15, 3) := dk_154 0 15 (dk_at dksL_law_27 18 rfl rfl)
theorem dL_law_793 : decode cL_law 793 = .ok (.aload_n 3, 1) := dk_45 (dk_at dksL_law_27 21 rfl rfl)
theorem dL_law_794 : decode cL_law 794 = .ok (.iconst 0, 1) := dk_3 (dk_at dksL_law_27 22 rfl rfl)
theorem dL_law_795 : decode cL_law 795 = .ok (.laload, 1) := dk_47 (dk_at dksL_law_27 23 rfl rfl)
theorem dL_law_796 : decode cL_law 796 = .ok (.iload 7, 2) := dk_21 7 (dk_at dksL_law_28 0 rfl rfl)
theorem dL_law_798 : decode cL_law 798 = .ok (.i2l, 1) := dk_133 (dk_at dksL_law_28 2 rfl rfl)
theorem dL_law_799 : decode cL_law 799 = .ok (.lcmp, 1) := dk_148 (dk_at dksL_law_28 3 rfl rfl)
theorem dL_law_800 : decode cL_law 800 = .ok (.ifCond .eq 5, 3) := dk_153 0 5 (dk_at dksL_law_28 4 rfl rfl)
theorem dL_law_803 : decode cL_law 803 = .ok (.iconst 0, 1) := dk_3 (dk_at dksL_law_28 7 rfl rfl)
theorem dL_law_804 : decode cL_law 804 = .ok (.ireturn, 1) := dk_172 (dk_at dksL_law_28 8 rfl rfl)
theorem dL_law_805 : decode cL_law 805 = .ok (.goto 1641, 3) := dk_167 6 105 (dk_at dksL_law_28 9 rfl rfl)
theorem dL_law_808 : decode cL_law 808 = .ok (.aload_n 1, 1) := dk_43 (dk_at dksL_law_28 12 rfl rfl)
theorem dL_law_809 : decode cL_law 809 = .ok (.aload_n 0, 1) := dk_42 (dk_at dksL_law_28 13 rfl rfl)
theorem dL_law_810 : decode cL_law 810 = .ok (.iload 5, 2) := dk_21 5 (dk_at dksL_law_28 14 rfl rfl)
theorem dL_law_812 : decode cL_law 812 = .ok (.iconst 1, 1) := dk_4 (dk_at dksL_law_28 16 rfl rfl)
theorem dL_law_813 : decode cL_law 813 = .ok (.iadd, 1) := dk_96 (dk_at dksL_law_28 17 rfl rfl)
theorem dL_law_814 : decode cL_law 814 = .ok (.iaload, 1) := dk_46 (dk_at dksL_law_28 18 rfl rfl)
theorem dL_law_815 : decode cL_law 815 = .ok (.aload_n 3, 1) := dk_45 (dk_at dksL_law_28 19 rfl rfl)
theorem dL_law_816 : decode cL_law 816 = .ok (.invokestatic 185, 3) := dk_184 0 185 (dk_at dksL_law_28 20 rfl rfl)
theorem dL_law_819 : decode cL_law 819 = .ok (.istore 6, 2) := dk_54 6 (dk_at dksL_law_29 0 rfl rfl)
theorem dL_law_821 : decode cL_law 821 = .ok (.aload_n 2, 1) := dk_44 (dk_at dksL_law_29 2 rfl rfl)
theorem dL_law_822 : decode cL_law 822 = .ok (.aload_n 0, 1) := dk_42 (dk_at dksL_law_29 3 rfl rfl)
theorem dL_law_823 : decode cL_law 823 = .ok (.iload 5, 2) := dk_21 5 (dk_at dksL_law_29 4 rfl rfl)
theorem dL_law_825 : decode cL_law 825 = .ok (.iconst 1, 1) := dk_4 (dk_at dksL_law_29 6 rfl rfl)
theorem dL_law_826 : decode cL_law 826 = .ok (.iadd, 1) := dk_96 (dk_at dksL_law_29 7 rfl rfl)
theorem dL_law_827 : decode cL_law 827 = .ok (.iaload, 1) := dk_46 (dk_at dksL_law_29 8 rfl rfl)
theorem dL_law_828 : decode cL_law 828 = .ok (.invokevirtual 187, 3) := dk_182 0 187 (dk_at dksL_law_29 9 rfl rfl)
theorem dL_law_831 : decode cL_law 831 = .ok (.istore 7, 2) := dk_54 7 (dk_at dksL_law_29 12 rfl rfl)
theorem dL_law_833 : decode cL_law 833 = .ok (.aload_n 2, 1) := dk_44 (dk_at dksL_law_29 14 rfl rfl)
theorem dL_law_834 : decode cL_law 834 = .ok (.invokevirtual 153, 3) := dk_182 0 153 (dk_at dksL_law_29 15 rfl rfl)
theorem dL_law_837 : decode cL_law 837 = .ok (.iload 6, 2) := dk_21 6 (dk_at dksL_law_29 18 rfl rfl)
theorem dL_law_839 : decode cL_law 839 = .ok (.if_icmp .eq 5, 3) := dk_159 0 5 (dk_at dksL_law_29 20 rfl rfl)
theorem dL_law_842 : decode cL_law 842 = .ok (.iconst 0, 1) := dk_3 (dk_at dksL_law_29 23 rfl rfl)
theorem dL_law_843 : decode cL_law 843 = .ok (.ireturn, 1) := dk_172 (dk_at dksL_law_30 0 rfl rfl)
theorem dL_law_844 : decode cL_law 844 = .ok (.iload 6, 2) := dk_21 6 (dk_at dksL_law_30 1 rfl rfl)
theorem dL_law_846 : decode cL_law 846 = .ok (.ifCond .ne 15, 3) := dk_154 0 15 (dk_at dksL_law_30 3 rfl rfl)
theorem dL_law_849 : decode cL_law 849 = .ok (.aload_n 3, 1) := dk_45 (dk_at dksL_law_30 6 rfl rfl)
theorem dL_law_850 : decode cL_law 850 = .ok (.iconst 0, 1) := dk_3 (dk_at dksL_law_30 7 rfl rfl)
theorem dL_law_851 : decode cL_law 851 = .ok (.laload, 1) := dk_47 (dk_at dksL_law_30 8 rfl rfl)
theorem dL_law_852 : decode cL_law 852 = .ok (.iload 7, 2) := dk_21 7 (dk_at dksL_law_30 9 rfl rfl)
theorem dL_law_854 : decode cL_law 854 = .ok (.i2l, 1) := dk_133 (dk_at dksL_law_30 11 rfl rfl)
theorem dL_law_855 : decode cL_law 855 = .ok (.lcmp, 1) := dk_148 (dk_at dksL_law_30 12 rfl rfl)
theorem dL_law_856 : decode cL_law 856 = .ok (.ifCond .eq 5, 3) := dk_153 0 5 (dk_at dksL_law_30 13 rfl rfl)
theorem dL_law_859 : decode cL_law 859 = .ok (.iconst 0, 1) := dk_3 (dk_at dksL_law_30 16 rfl rfl)
theorem dL_law_860 : decode cL_law 860 = .ok (.ireturn, 1) := dk_172 (dk_at dksL_law_30 17 rfl rfl)
theorem dL_law_861 : decode cL_law 861 = .ok (.goto 1585, 3) := dk_167 6 49 (dk_at dksL_law_30 18 rfl rfl)
theorem dL_law_864 : decode cL_law 864 = .ok (.aload_n 1, 1) := dk_43 (dk_at dksL_law_30 21 rfl rfl)
theorem dL_law_865 : decode cL_law 865 = .ok (.aload_n 0, 1) := dk_42 (dk_at dksL_law_30 22 rfl rfl)
theorem dL_law_866 : decode cL_law 866 = .ok (.iload 5, 2) := dk_21 5 (dk_at dksL_law_31 0 rfl rfl)
theorem dL_law_868 : decode cL_law 868 = .ok (.iconst 1, 1) := dk_4 (dk_at dksL_law_31 2 rfl rfl)
theorem dL_law_869 : decode cL_law 869 = .ok (.iadd, 1) := dk_96 (dk_at dksL_law_31 3 rfl rfl)
theorem dL_law_870 : decode cL_law 870 = .ok (.iaload, 1) := dk_46 (dk_at dksL_law_31 4 rfl rfl)
theorem dL_law_871 : decode cL_law 871 = .ok (.aload_n 3, 1) := dk_45 (dk_at dksL_law_31 5 rfl rfl)
theorem dL_law_872 : decode cL_law 872 = .ok (.invokestatic 188, 3) := dk_184 0 188 (dk_at dksL_law_31 6 rfl rfl)
theorem dL_law_875 : decode cL_law 875 = .ok (.istore 6, 2) := dk_54 6 (dk_at dksL_law_31 9 rfl rfl)
theorem dL_law_877 : decode cL_law 877 = .ok (.aload_n 2, 1) := dk_44 (dk_at dksL_law_31 11 rfl rfl)
theorem dL_law_878 : decode cL_law 878 = .ok (.aload_n 0, 1) := dk_42 (dk_at dksL_law_31 12 rfl rfl)
theorem dL_law_879 : decode cL_law 879 = .ok (.iload 5, 2) := dk_21 5 (dk_at dksL_law_31 13 rfl rfl)
theorem dL_law_881 : decode cL_law 881 = .ok (.iconst 1, 1) := dk_4 (dk_at dksL_law_31 15 rfl rfl)
theorem dL_law_882 : decode cL_law 882 = .ok (.iadd, 1) := dk_96 (dk_at dksL_law_31 16 rfl rfl)
theorem dL_law_883 : decode cL_law 883 = .ok (.iaload, 1) := dk_46 (dk_at dksL_law_31 17 rfl rfl)
theorem dL_law_884 : decode cL_law 884 = .ok (.invokevirtual 190, 3) := dk_182 0 190 (dk_at dksL_law_31 18 rfl rfl)
theorem dL_law_887 : decode cL_law 887 = .ok (.istore 7, 2) := dk_54 7 (dk_at dksL_law_31 21 rfl rfl)
theorem dL_law_889 : decode cL_law 889 = .ok (.aload_n 2, 1) := dk_44 (dk_at dksL_law_31 23 rfl rfl)
theorem dL_law_890 : decode cL_law 890 = .ok (.invokevirtual 153, 3) := dk_182 0 153 (dk_at dksL_law_32 0 rfl rfl)
theorem dL_law_893 : decode cL_law 893 = .ok (.iload 6, 2) := dk_21 6 (dk_at dksL_law_32 3 rfl rfl)
theorem dL_law_895 : decode cL_law 895 = .ok (.if_icmp .eq 5, 3) := dk_159 0 5 (dk_at dksL_law_32 5 rfl rfl)
theorem dL_law_898 : decode cL_law 898 = .ok (.iconst 0, 1) := dk_3 (dk_at dksL_law_32 8 rfl rfl)
theorem dL_law_899 : decode cL_law 899 = .ok (.ireturn, 1) := dk_172 (dk_at dksL_law_32 9 rfl rfl)
theorem dL_law_900 : decode cL_law 900 = .ok (.iload 6, 2) := dk_21 6 (dk_at dksL_law_32 10 rfl rfl)
theorem dL_law_902 : decode cL_law 902 = .ok (.ifCond .ne 15, 3) := dk_154 0 15 (dk_at dksL_law_32 12 rfl rfl)
theorem dL_law_905 : decode cL_law 905 = .ok (.aload_n 3, 1) := dk_45 (dk_at dksL_law_32 15 rfl rfl)
theorem dL_law_906 : decode cL_law 906 = .ok (.iconst 0, 1) := dk_3 (dk_at dksL_law_32 16 rfl rfl)
theorem dL_law_907 : decode cL_law 907 = .ok (.laload, 1) := dk_47 (dk_at dksL_law_32 17 rfl rfl)
theorem dL_law_908 : decode cL_law 908 = .ok (.iload 7, 2) := dk_21 7 (dk_at dksL_law_32 18 rfl rfl)
theorem dL_law_910 : decode cL_law 910 = .ok (.i2l, 1) := dk_133 (dk_at dksL_law_32 20 rfl rfl)
theorem dL_law_911 : decode cL_law 911 = .ok (.lcmp, 1) := dk_148 (dk_at dksL_law_32 21 rfl rfl)
theorem dL_law_912 : decode cL_law 912 = .ok (.ifCond .eq 5, 3) := dk_153 0 5 (dk_at dksL_law_33 0 rfl rfl)
theorem dL_law_915 : decode cL_law 915 = .ok (.iconst 0, 1) := dk_3 (dk_at dksL_law_33 3 rfl rfl)
theorem dL_law_916 : decode cL_law 916 = .ok (.ireturn, 1) := dk_172 (dk_at dksL_law_33 4 rfl rfl)
theorem dL_law_917 : decode cL_law 917 = .ok (.goto 1529, 3) := dk_167 5 249 (dk_at dksL_law_33 5 rfl rfl)
theorem dL_law_920 : decode cL_law 920 = .ok (.aload_n 1, 1) := dk_43 (dk_at dksL_law_33 8 rfl rfl)
theorem dL_law_921 : decode cL_law 921 = .ok (.aload_n 0, 1) := dk_42 (dk_at dksL_law_33 9 rfl rfl)
theorem dL_law_922 : decode cL_law 922 = .ok (.iload 5, 2) := dk_21 5 (dk_at dksL_law_33 10 rfl rfl)
theorem dL_law_924 : decode cL_law 924 = .ok (.iconst 1, 1) := dk_4 (dk_at dksL_law_33 12 rfl rfl)
theorem dL_law_925 : decode cL_law 925 = .ok (.iadd, 1) := dk_96 (dk_at dksL_law_33 13 rfl rfl)
theorem dL_law_926 : decode cL_law 926 = .ok (.iaload, 1) := dk_46 (dk_at dksL_law_33 14 rfl rfl)
theorem dL_law_927 : decode cL_law 927 = .ok (.aload_n 0, 1) := dk_42 (dk_at dksL_law_33 15 rfl rfl)
theorem dL_law_928 : decode cL_law 928 = .ok (.iload 5, 2) := dk_21 5 (dk_at dksL_law_33 16 rfl rfl)
theorem dL_law_930 : decode cL_law 930 = .ok (.iconst 2, 1) := dk_5 (dk_at dksL_law_33 18 rfl rfl)
theorem dL_law_931 : decode cL_law 931 = .ok (.iadd, 1) := dk_96 (dk_at dksL_law_33 19 rfl rfl)
theorem dL_law_932 : decode cL_law 932 = .ok (.iaload, 1) := dk_46 (dk_at dksL_law_33 20 rfl rfl)
theorem dL_law_933 : decode cL_law 933 = .ok (.aload_n 0, 1) := dk_42 (dk_at dksL_law_33 21 rfl rfl)
theorem dL_law_934 : decode cL_law 934 = .ok (.iload 5, 2) := dk_21 5 (dk_at dksL_law_33 22 rfl rfl)
theorem dL_law_936 : decode cL_law 936 = .ok (.iconst 3, 1) := dk_6 (dk_at dksL_law_34 0 rfl rfl)
theorem dL_law_937 : decode cL_law 937 = .ok (.iadd, 1) := dk_96 (dk_at dksL_law_34 1 rfl rfl)
theorem dL_law_938 : decode cL_law 938 = .ok (.iaload, 1) := dk_46 (dk_at dksL_law_34 2 rfl rfl)
theorem dL_law_939 : decode cL_law 939 = .ok (.aload_n 3, 1) := dk_45 (dk_at dksL_law_34 3 rfl rfl)
theorem dL_law_940 : decode cL_law 940 = .ok (.invokestatic 191, 3) := dk_184 0 191 (dk_at dksL_law_34 4 rfl rfl)
theorem dL_law_943 : decode cL_law 943 = .ok (.istore 6, 2) := dk_54 6 (dk_at dksL_law_34 7 rfl rfl)
theorem dL_law_945 : decode cL_law 945 = .ok (.aload_n 2, 1) := dk_44 (dk_at dksL_law_34 9 rfl rfl)
theorem dL_law_946 : decode cL_law 946 = .ok (.aload_n 0, 1) := dk_42 (dk_at dksL_law_34 10 rfl rfl)
theorem dL_law_947 : decode cL_law 947 = .ok (.iload 5, 2) := dk_21 5 (dk_at dksL_law_34 11 rfl rfl)
theorem dL_law_949 : decode cL_law 949 = .ok (.iconst 1, 1) := dk_4 (dk_at dksL_law_34 13 rfl rfl)
theorem dL_law_950 : decode cL_law 950 = .ok (.iadd, 1) := dk_96 (dk_at dksL_law_34 14 rfl rfl)
theorem dL_law_951 : decode cL_law 951 = .ok (.iaload, 1) := dk_46 (dk_at dksL_law_34 15 rfl rfl)
theorem dL_law_952 : decode cL_law 952 = .ok (.aload_n 0, 1) := dk_42 (dk_at dksL_law_34 16 rfl rfl)
theorem dL_law_953 : decode cL_law 953 = .ok (.iload 5, 2) := dk_21 5 (dk_at dksL_law_34 17 rfl rfl)
theorem dL_law_955 : decode cL_law 955 = .ok (.iconst 2, 1) := dk_5 (dk_at dksL_law_34 19 rfl rfl)
theorem dL_law_956 : decode cL_law 956 = .ok (.iadd, 1) := dk_96 (dk_at dksL_law_34 20 rfl rfl)
theorem dL_law_957 : decode cL_law 957 = .ok (.iaload, 1) := dk_46 (dk_at dksL_law_34 21 rfl rfl)
theorem dL_law_958 : decode cL_law 958 = .ok (.aload_n 0, 1) := dk_42 (dk_at dksL_law_34 22 rfl rfl)
theorem dL_law_959 : decode cL_law 959 = .ok (.iload 5, 2) := dk_21 5 (dk_at dksL_law_35 0 rfl rfl)
theorem dL_law_961 : decode cL_law 961 = .ok (.iconst 3, 1) := dk_6 (dk_at dksL_law_35 2 rfl rfl)
theorem dL_law_962 : decode cL_law 962 = .ok (.iadd, 1) := dk_96 (dk_at dksL_law_35 3 rfl rfl)
theorem dL_law_963 : decode cL_law 963 = .ok (.iaload, 1) := dk_46 (dk_at dksL_law_35 4 rfl rfl)
theorem dL_law_964 : decode cL_law 964 = .ok (.invokevirtual 194, 3) := dk_182 0 194 (dk_at dksL_law_35 5 rfl rfl)
theorem dL_law_967 : decode cL_law 967 = .ok (.istore 7, 2) := dk_54 7 (dk_at dksL_law_35 8 rfl rfl)
theorem dL_law_969 : decode cL_law 969 = .ok (.aload_n 2, 1) := dk_44 (dk_at dksL_law_35 10 rfl rfl)
theorem dL_law_970 : decode cL_law 970 = .ok (.invokevirtual 153, 3) := dk_182 0 153 (dk_at dksL_law_35 11 rfl rfl)
theorem dL_law_973 : decode cL_law 973 = .ok (.iload 6, 2) := dk_21 6 (dk_at dksL_law_35 14 rfl rfl)
theorem dL_law_975 : decode cL_law 975 = .ok (.if_icmp .eq 5, 3) := dk_159 0 5 (dk_at dksL_law_35 16 rfl rfl)
theorem dL_law_978 : decode cL_law 978 = .ok (.iconst 0, 1) := dk_3 (dk_at dksL_law_35 19 rfl rfl)
theorem dL_law_979 : decode cL_law 979 = .ok (.ireturn, 1) := dk_172 (dk_at dksL_law_35 20 rfl rfl)
theorem dL_law_980 : decode cL_law 980 = .ok (.iload 6, 2) := dk_21 6 (dk_at dksL_law_35 21 rfl rfl)
theorem dL_law_982 : decode cL_law 982 = .ok (.ifCond .ne 15, 3) := dk_154 0 15 (dk_at dksL_law_36 0 rfl rfl)
theorem dL_law_985 : decode cL_law 985 = .ok (.aload_n 3, 1) := dk_45 (dk_at dksL_law_36 3 rfl rfl)
theorem dL_law_986 : decode cL_law 986 = .ok (.iconst 0, 1) := dk_3 (dk_at dksL_law_36 4 rfl rfl)
theorem dL_law_987 : decode cL_law 987 = .ok (.laload, 1) := dk_47 (dk_at dksL_law_36 5 rfl rfl)
theorem dL_law_988 : decode cL_law 988 = .ok (.iload 7, 2) := dk_21 7 (dk_at dksL_law_36 6 rfl rfl)
theorem dL_law_990 : decode cL_law 990 = .ok (.i2l, 1) := dk_133 (dk_at dksL_law_36 8 rfl rfl)
theorem dL_law_991 : decode cL_law 991 = .ok (.lcmp, 1) := dk_148 (dk_at dksL_law_36 9 rfl rfl)
theorem dL_law_992 : decode cL_law 992 = .ok (.ifCond .eq 5, 3) := dk_153 0 5 (dk_at dksL_law_36 10 rfl rfl)
theorem dL_law_995 : decode cL_law 995 = .ok (.iconst 0, 1) := dk_3 (dk_at dksL_law_36 13 rfl rfl)
theorem dL_law_996 : decode cL_law 996 = .ok (.ireturn, 1) := dk_172 (dk_at dksL_law_36 14 rfl rfl)
theorem dL_law_997 : decode cL_law 997 = .ok (.goto 1449, 3) := dk_167 5 169 (dk_at dksL_law_36 15 rfl rfl)
theorem dL_law_1000 : decode cL_law 1000 = .ok (.aload_n 1, 1) := dk_43 (dk_at dksL_law_36 18 rfl rfl)
theorem dL_law_1001 : decode cL_law 1001 = .ok (.aload_n 0, 1) := dk_42 (dk_at dksL_law_36 19 rfl rfl)
theorem dL_law_1002 : decode cL_law 1002 = .ok (.iload 5, 2) := dk_21 5 (dk_at dksL_law_36 20 rfl rfl)
theorem dL_law_1004 : decode cL_law 1004 = .ok (.iconst 1, 1) := dk_4 (dk_at dksL_law_36 22 rfl rfl)
theorem dL_law_1005 : decode cL_law 1005 = .ok (.iadd, 1) := dk_96 (dk_at dksL_law_36 23 rfl rfl)
theorem dL_law_1006 : decode cL_law 1006 = .ok (.iaload, 1) := dk_46 (dk_at dksL_law_37 0 rfl rfl)
theorem dL_law_1007 : decode cL_law 1007 = .ok (.aload_n 0, 1) := dk_42 (dk_at dksL_law_37 1 rfl rfl)
theorem dL_law_1008 : decode cL_law 1008 = .ok (.iload 5, 2) := dk_21 5 (dk_at dksL_law_37 2 rfl rfl)
theorem dL_law_1010 : decode cL_law 1010 = .ok (.iconst 2, 1) := dk_5 (dk_at dksL_law_37 4 rfl rfl)
theorem dL_law_1011 : decode cL_law 1011 = .ok (.iadd, 1) := dk_96 (dk_at dksL_law_37 5 rfl rfl)
theorem dL_law_1012 : decode cL_law 1012 = .ok (.iaload, 1) := dk_46 (dk_at dksL_law_37 6 rfl rfl)
theorem dL_law_1013 : decode cL_law 1013 = .ok (.aload_n 3, 1) := dk_45 (dk_at dksL_law_37 7 rfl rfl)
theorem dL_law_1014 : decode cL_law 1014 = .ok (.invokestatic 195, 3) := dk_184 0 195 (dk_at dksL_law_37 8 rfl rfl)
theorem dL_law_1017 : decode cL_law 1017 = .ok (.istore 6, 2) := dk_54 6 (dk_at dksL_law_37 11 rfl rfl)
theorem dL_law_1019 : decode cL_law 1019 = .ok (.aload_n 2, 1) := dk_44 (dk_at dksL_law_37 13 rfl rfl)
theorem dL_law_1020 : decode cL_law 1020 = .ok (.aload_n 0, 1) := dk_42 (dk_at dksL_law_37 14 rfl rfl)
theorem dL_law_1021 : decode cL_law 1021 = .ok (.iload 5, 2) := dk_21 5 (dk_at dksL_law_37 15 rfl rfl)
theorem dL_law_1023 : decode cL_law 1023 = .ok (.iconst 1, 1) := dk_4 (dk_at dksL_law_37 17 rfl rfl)
theorem dL_law_1024 : decode cL_law 1024 = .ok (.iadd, 1) := dk_96 (dk_at dksL_law_37 18 rfl rfl)
theorem dL_law_1025 : decode cL_law 1025 = .ok (.iaload, 1) := dk_46 (dk_at dksL_law_37 19 rfl rfl)
theorem dL_law_1026 : decode cL_law 1026 = .ok (.aload_n 0, 1) := dk_42 (dk_at dksL_law_37 20 rfl rfl)
theorem dL_law_1027 : decode cL_law 1027 = .ok (.iload 5, 2) := dk_21 5 (dk_at dksL_law_37 21 rfl rfl)
theorem dL_law_1029 : decode cL_law 1029 = .ok (.iconst 2, 1) := dk_5 (dk_at dksL_law_37 23 rfl rfl)
theorem dL_law_1030 : decode cL_law 1030 = .ok (.iadd, 1) := dk_96 (dk_at dksL_law_38 0 rfl rfl)
theorem dL_law_1031 : decode cL_law 1031 = .ok (.iaload, 1) := dk_46 (dk_at dksL_law_38 1 rfl rfl)
theorem dL_law_1032 : decode cL_law 1032 = .ok (.invokevirtual 197, 3) := dk_182 0 197 (dk_at dksL_law_38 2 rfl rfl)
theorem dL_law_1035 : decode cL_law 1035 = .ok (.istore 7, 2) := dk_54 7 (dk_at dksL_law_38 5 rfl rfl)
theorem dL_law_1037 : decode cL_law 1037 = .ok (.aload_n 2, 1) := dk_44 (dk_at dksL_law_38 7 rfl rfl)
theorem dL_law_1038 : decode cL_law 1038 = .ok (.invokevirtual 153, 3) := dk_182 0 153 (dk_at dksL_law_38 8 rfl rfl)
theorem dL_law_1041 : decode cL_law 1041 = .ok (.iload 6, 2) := dk_21 6 (dk_at dksL_law_38 11 rfl rfl)
theorem dL_law_1043 : decode cL_law 1043 = .ok (.if_icmp .eq 5, 3) := dk_159 0 5 (dk_at dksL_law_38 13 rfl rfl)
theorem dL_law_1046 : decode cL_law 1046 = .ok (.iconst 0, 1) := dk_3 (dk_at dksL_law_38 16 rfl rfl)
theorem dL_law_1047 : decode cL_law 1047 = .ok (.ireturn, 1) := dk_172 (dk_at dksL_law_38 17 rfl rfl)
theorem dL_law_1048 : decode cL_law 1048 = .ok (.iload 6, 2) := dk_21 6 (dk_at dksL_law_38 18 rfl rfl)
theorem dL_law_1050 : decode cL_law 1050 = .ok (.ifCond .ne 15, 3) := dk_154 0 15 (dk_at dksL_law_38 20 rfl rfl)
theorem dL_law_1053 : decode cL_law 1053 = .ok (.aload_n 3, 1) := dk_45 (dk_at dksL_law_38 23 rfl rfl)
theorem dL_law_1054 : decode cL_law 1054 = .ok (.iconst 0, 1) := dk_3 (dk_at dksL_law_39 0 rfl rfl)
theorem dL_law_1055 : decode cL_law 1055 = .ok (.laload, 1) := dk_47 (dk_at dksL_law_39 1 rfl rfl)
theorem dL_law_1056 : decode cL_law 1056 = .ok (.iload 7, 2) := dk_21 7 (dk_at dksL_law_39 2 rfl rfl)
theorem dL_law_1058 : decode cL_law 1058 = .ok (.i2l, 1) := dk_133 (dk_at dksL_law_39 4 rfl rfl)
theorem dL_law_1059 : decode cL_law 1059 = .ok (.lcmp, 1) := dk_148 (dk_at dksL_law_39 5 rfl rfl)
theorem dL_law_1060 : decode cL_law 1060 = .ok (.ifCond .eq 5, 3) := dk_153 0 5 (dk_at dksL_law_39 6 rfl rfl)
theorem dL_law_1063 : decode cL_law 1063 = .ok (.iconst 0, 1) := dk_3 (dk_at dksL_law_39 9 rfl rfl)
theorem dL_law_1064 : decode cL_law 1064 = .ok (.ireturn, 1) := dk_172 (dk_at dksL_law_39 10 rfl rfl)
theorem dL_law_1065 : decode cL_law 1065 = .ok (.goto 1381, 3) := dk_167 5 101 (dk_at dksL_law_39 11 rfl rfl)
theorem dL_law_1068 : decode cL_law 1068 = .ok (.aload_n 1, 1) := dk_43 (dk_at dksL_law_39 14 rfl rfl)
theorem dL_law_1069 : decode cL_law 1069 = .ok (.aload_n 0, 1) := dk_42 (dk_at dksL_law_39 15 rfl rfl)
theorem dL_law_1070 : decode cL_law 1070 = .ok (.iload 5, 2) := dk_21 5 (dk_at dksL_law_39 16 rfl rfl)
theorem dL_law_1072 : decode cL_law 1072 = .ok (.iconst 1, 1) := dk_4 (dk_at dksL_law_39 18 rfl rfl)
theorem dL_law_1073 : decode cL_law 1073 = .ok (.iadd, 1) := dk_96 (dk_at dksL_law_39 19 rfl rfl)
theorem dL_law_1074 : decode cL_law 1074 = .ok (.iaload, 1) := dk_46 (dk_at dksL_law_39 20 rfl rfl)
theorem dL_law_1075 : decode cL_law 1075 = .ok (.aload_n 0, 1) := dk_42 (dk_at dksL_law_39 21 rfl rfl)
theorem dL_law_1076 : decode cL_law 1076 = .ok (.iload 5, 2) := dk_21 5 (dk_at dksL_law_39 22 rfl rfl)
theorem dL_law_1078 : decode cL_law 1078 = .ok (.iconst 2, 1) := dk_5 (dk_at dksL_law_40 0 rfl rfl)
theorem dL_law_1079 : decode cL_law 1079 = .ok (.iadd, 1) := dk_96 (dk_at dksL_law_40 1 rfl rfl)
theorem dL_law_1080 : decode cL_law 1080 = .ok (.iaload, 1) := dk_46 (dk_at dksL_law_40 2 rfl rfl)
theorem dL_law_1081 : decode cL_law 1081 = .ok (.aload_n 3, 1) := dk_45 (dk_at dksL_law_40 3 rfl rfl)
theorem dL_law_1082 : decode cL_law 1082 = .ok (.invokestatic 198, 3) := dk_184 0 198 (dk_at dksL_law_40 4 rfl rfl)
theorem dL_law_1085 : decode cL_law 1085 = .ok (.istore 6, 2) := dk_54 6 (dk_at dksL_law_40 7 rfl rfl)
theorem dL_law_1087 : decode cL_law 1087 = .ok (.aload_n 2, 1) := dk_44 (dk_at dksL_law_40 9 rfl rfl)
theorem dL_law_1088 : decode cL_law 1088 = .ok (.aload_n 0, 1) := dk_42 (dk_at dksL_law_40 10 rfl rfl)
theorem dL_law_1089 : decode cL_law 1089 = .ok (.iload 5, 2) := dk_21 5 (dk_at dksL_law_40 11 rfl rfl)
theorem dL_law_1091 : decode cL_law 1091 = .ok (.iconst 1, 1) := dk_4 (dk_at dksL_law_40 13 rfl rfl)
theorem dL_law_1092 : decode cL_law 1092 = .ok (.iadd, 1) := dk_96 (dk_at dksL_law_40 14 rfl rfl)
theorem dL_law_1093 : decode cL_law 1093 = .ok (.iaload, 1) := dk_46 (dk_at dksL_law_40 15 rfl rfl)
theorem dL_law_1094 : decode cL_law 1094 = .ok (.aload_n 0, 1) := dk_42 (dk_at dksL_law_40 16 rfl rfl)
theorem dL_law_1095 : decode cL_law 1095 = .ok (.iload 5, 2) := dk_21 5 (dk_at dksL_law_40 17 rfl rfl)
theorem dL_law_1097 : decode cL_law 1097 = .ok (.iconst 2, 1) := dk_5 (dk_at dksL_law_40 19 rfl rfl)
theorem dL_law_1098 : decode cL_law 1098 = .ok (.iadd, 1) := dk_96 (dk_at dksL_law_40 20 rfl rfl)
theorem dL_law_1099 : decode cL_law 1099 = .ok (.iaload, 1) := dk_46 (dk_at dksL_law_40 21 rfl rfl)
theorem dL_law_1100 : decode cL_law 1100 = .ok (.invokevirtual 200, 3) := dk_182 0 200 (dk_at dksL_law_41 0 rfl rfl)
theorem dL_law_1103 : decode cL_law 1103 = .ok (.istore 7, 2) := dk_54 7 (dk_at dksL_law_41 3 rfl rfl)
theorem dL_law_1105 : decode cL_law 1105 = .ok (.aload_n 2, 1) := dk_44 (dk_at dksL_law_41 5 rfl rfl)
theorem dL_law_1106 : decode cL_law 1106 = .ok (.invokevirtual 153, 3) := dk_182 0 153 (dk_at dksL_law_41 6 rfl rfl)
theorem dL_law_1109 : decode cL_law 1109 = .ok (.iload 6, 2) := dk_21 6 (dk_at dksL_law_41 9 rfl rfl)
theorem dL_law_1111 : decode cL_law 1111 = .ok (.if_icmp .eq 5, 3) := dk_159 0 5 (dk_at dksL_law_41 11 rfl rfl)
theorem dL_law_1114 : decode cL_law 1114 = .ok (.iconst 0, 1) := dk_3 (dk_at dksL_law_41 14 rfl rfl)
theorem dL_law_1115 : decode cL_law 1115 = .ok (.ireturn, 1) := dk_172 (dk_at dksL_law_41 15 rfl rfl)
theorem dL_law_1116 : decode cL_law 1116 = .ok (.iload 6, 2) := dk_21 6 (dk_at dksL_law_41 16 rfl rfl)
theorem dL_law_1118 : decode cL_law 1118 = .ok (.ifCond .ne 15, 3) := dk_154 0 15 (dk_at dksL_law_41 18 rfl rfl)
theorem dL_law_1121 : decode cL_law 1121 = .ok (.aload_n 3, 1) := dk_45 (dk_at dksL_law_41 21 rfl rfl)
theorem dL_law_1122 : decode cL_law 1122 = .ok (.iconst 0, 1) := dk_3 (dk_at dksL_law_41 22 rfl rfl)
theorem dL_law_1123 : decode cL_law 1123 = .ok (.laload, 1) := dk_47 (dk_at dksL_law_41 23 rfl rfl)
theorem dL_law_1124 : decode cL_law 1124 = .ok (.iload 7, 2) := dk_21 7 (dk_at dksL_law_42 0 rfl rfl)
theorem dL_law_1126 : decode cL_law 1126 = .ok (.i2l, 1) := dk_133 (dk_at dksL_law_42 2 rfl rfl)
theorem dL_law_1127 : decode cL_law 1127 = .ok (.lcmp, 1) := dk_148 (dk_at dksL_law_42 3 rfl rfl)
theorem dL_law_1128 : decode cL_law 1128 = .ok (.ifCond .eq 5, 3) := dk_153 0 5 (dk_at dksL_law_42 4 rfl rfl)
theorem dL_law_1131 : decode cL_law 1131 = .ok (.iconst 0, 1) := dk_3 (dk_at dksL_law_42 7 rfl rfl)
theorem dL_law_1132 : decode cL_law 1132 = .ok (.ireturn, 1) := dk_172 (dk_at dksL_law_42 8 rfl rfl)
theorem dL_law_1133 : decode cL_law 1133 = .ok (.goto 1313, 3) := dk_167 5 33 (dk_at dksL_law_42 9 rfl rfl)
theorem dL_law_1136 : decode cL_law 1136 = .ok (.aload_n 1, 1) := dk_43 (dk_at dksL_law_42 12 rfl rfl)
theorem dL_law_1137 : decode cL_law 1137 = .ok (.aload_n 0, 1) := dk_42 (dk_at dksL_law_42 13 rfl rfl)
theorem dL_law_1138 : decode cL_law 1138 = .ok (.iload 5, 2) := dk_21 5 (dk_at dksL_law_42 14 rfl rfl)
theorem dL_law_1140 : decode cL_law 1140 = .ok (.iconst 1, 1) := dk_4 (dk_at dksL_law_42 16 rfl rfl)
theorem dL_law_1141 : decode cL_law 1141 = .ok (.iadd, 1) := dk_96 (dk_at dksL_law_42 17 rfl rfl)
theorem dL_law_1142 : decode cL_law 1142 = .ok (.iaload, 1) := dk_46 (dk_at dksL_law_42 18 rfl rfl)
theorem dL_law_1143 : decode cL_law 1143 = .ok (.aload_n 0, 1) := dk_42 (dk_at dksL_law_42 19 rfl rfl)
theorem dL_law_1144 : decode cL_law 1144 = .ok (.iload 5, 2) := dk_21 5 (dk_at dksL_law_42 20 rfl rfl)
theorem dL_law_1146 : decode cL_law 1146 = .ok (.iconst 2, 1) := dk_5 (dk_at dksL_law_42 22 rfl rfl)
theorem dL_law_1147 : decode cL_law 1147 = .ok (.iadd, 1) := dk_96 (dk_at dksL_law_42 23 rfl rfl)
theorem dL_law_1148 : decode cL_law 1148 = .ok (.iaload, 1) := dk_46 (dk_at dksL_law_43 0 rfl rfl)
theorem dL_law_1149 : decode cL_law 1149 = .ok (.aload_n 0, 1) := dk_42 (dk_at dksL_law_43 1 rfl rfl)
theorem dL_law_1150 : decode cL_law 1150 = .ok (.iload 5, 2) := dk_21 5 (dk_at dksL_law_43 2 rfl rfl)
theorem dL_law_1152 : decode cL_law 1152 = .ok (.iconst 3, 1) := dk_6 (dk_at dksL_law_43 4 rfl rfl)
theorem dL_law_1153 : decode cL_law 1153 = .ok (.iadd, 1) := dk_96 (dk_at dksL_law_43 5 rfl rfl)
theorem dL_law_1154 : decode cL_law 1154 = .ok (.iaload, 1) := dk_46 (dk_at dksL_law_43 6 rfl rfl)
theorem dL_law_1155 : decode cL_law 1155 = .ok (.ifCond .eq 7, 3) := dk_153 0 7 (dk_at dksL_law_43 7 rfl rfl)
theorem dL_law_1158 : decode cL_law 1158 = .ok (.iconst 1, 1) := dk_4 (dk_at dksL_law_43 10 rfl rfl)
theorem dL_law_1159 : decode cL_law 1159 = .ok (.goto 4, 3) := dk_167 0 4 (dk_at dksL_law_43 11 rfl rfl)
theorem dL_law_1162 : decode cL_law 1162 = .ok (.iconst 0, 1) := dk_3 (dk_at dksL_law_43 14 rfl rfl)
theorem dL_law_1163 : decode cL_law 1163 = .ok (.aload_n 3, 1) := dk_45 (dk_at dksL_law_43 15 rfl rfl)
theorem dL_law_1164 : decode cL_law 1164 = .ok (.invokestatic 201, 3) := dk_184 0 201 (dk_at dksL_law_43 16 rfl rfl)
theorem dL_law_1167 : decode cL_law 1167 = .ok (.istore 6, 2) := dk_54 6 (dk_at dksL_law_43 19 rfl rfl)
theorem dL_law_1169 : decode cL_law 1169 = .ok (.aload_n 2, 1) := dk_44 (dk_at dksL_law_43 21 rfl rfl)
theorem dL_law_1170 : decode cL_law 1170 = .ok (.aload_n 0, 1) := dk_42 (dk_at dksL_law_43 22 rfl rfl)
theorem dL_law_1171 : decode cL_law 1171 = .ok (.iload 5, 2) := dk_21 5 (dk_at dksL_law_44 0 rfl rfl)
theorem dL_law_1173 : decode cL_law 1173 = .ok (.iconst 1, 1) := dk_4 (dk_at dksL_law_44 2 rfl rfl)
theorem dL_law_1174 : decode cL_law 1174 = .ok (.iadd, 1) := dk_96 (dk_at dksL_law_44 3 rfl rfl)
theorem dL_law_1175 : decode cL_law 1175 = .ok (.iaload, 1) := dk_46 (dk_at dksL_law_44 4 rfl rfl)
theorem dL_law_1176 : decode cL_law 1176 = .ok (.aload_n 0, 1) := dk_42 (dk_at dksL_law_44 5 rfl rfl)
theorem dL_law_1177 : decode cL_law 1177 = .ok (.iload 5, 2) := dk_21 5 (dk_at dksL_law_44 6 rfl rfl)
theorem dL_law_1179 : decode cL_law 1179 = .ok (.iconst 2, 1) := dk_5 (dk_at dksL_law_44 8 rfl rfl)
theorem dL_law_1180 : decode cL_law 1180 = .ok (.iadd, 1) := dk_96 (dk_at dksL_law_44 9 rfl rfl)
theorem dL_law_1181 : decode cL_law 1181 = .ok (.iaload, 1) := dk_46 (dk_at dksL_law_44 10 rfl rfl)
theorem dL_law_1182 : decode cL_law 1182 = .ok (.aload_n 0, 1) := dk_42 (dk_at dksL_law_44 11 rfl rfl)
theorem dL_law_1183 : decode cL_law 1183 = .ok (.iload 5, 2) := dk_21 5 (dk_at dksL_law_44 12 rfl rfl)
theorem dL_law_1185 : decode cL_law 1185 = .ok (.iconst 3, 1) := dk_6 (dk_at dksL_law_44 14 rfl rfl)
theorem dL_law_1186 : decode cL_law 1186 = .ok (.iadd, 1) := dk_96 (dk_at dksL_law_44 15 rfl rfl)
theorem dL_law_1187 : decode cL_law 1187 = .ok (.iaload, 1) := dk_46 (dk_at dksL_law_44 16 rfl rfl)
theorem dL_law_1188 : decode cL_law 1188 = .ok (.ifCond .eq 7, 3) := dk_153 0 7 (dk_at dksL_law_44 17 rfl rfl)
theorem dL_law_1191 : decode cL_law 1191 = .ok (.iconst 1, 1) := dk_4 (dk_at dksL_law_44 20 rfl rfl)
theorem dL_law_1192 : decode cL_law 1192 = .ok (.goto 4, 3) := dk_167 0 4 (dk_at dksL_law_44 21 rfl rfl)
theorem dL_law_1195 : decode cL_law 1195 = .ok (.iconst 0, 1) := dk_3 (dk_at dksL_law_45 0 rfl rfl)
theorem dL_law_1196 : decode cL_law 1196 = .ok (.invokevirtual 204, 3) := dk_182 0 204 (dk_at dksL_law_45 1 rfl rfl)
theorem dL_law_1199 : decode cL_law 1199 = .ok (.istore 7, 2) := dk_54 7 (dk_at dksL_law_45 4 rfl rfl)
theorem dL_law_1201 : decode cL_law 1201 = .ok (.aload_n 2, 1) := dk_44 (dk_at dksL_law_45 6 rfl rfl)
theorem dL_law_1202 : decode cL_law 1202 = .ok (.invokevirtual 153, 3) := dk_182 0 153 (dk_at dksL_law_45 7 rfl rfl)
theorem dL_law_1205 : decode cL_law 1205 = .ok (.iload 6, 2) := dk_21 6 (dk_at dksL_law_45 10 rfl rfl)
theorem dL_law_1207 : decode cL_law 1207 = .ok (.if_icmp .eq 5, 3) := dk_159 0 5 (dk_at dksL_law_45 12 rfl rfl)
theorem dL_law_1210 : decode cL_law 1210 = .ok (.iconst 0, 1) := dk_3 (dk_at dksL_law_45 15 rfl rfl)
theorem dL_law_1211 : decode cL_law 1211 = .ok (.ireturn, 1) := dk_172 (dk_at dksL_law_45 16 rfl rfl)
theorem dL_law_1212 : decode cL_law 1212 = .ok (.iload 6, 2) := dk_21 6 (dk_at dksL_law_45 17 rfl rfl)
theorem dL_law_1214 : decode cL_law 1214 = .ok (.ifCond .ne 15, 3) := dk_154 0 15 (dk_at dksL_law_45 19 rfl rfl)
theorem dL_law_1217 : decode cL_law 1217 = .ok (.aload_n 3, 1) := dk_45 (dk_at dksL_law_45 22 rfl rfl)
theorem dL_law_1218 : decode cL_law 1218 = .ok (.iconst 0, 1) := dk_3 (dk_at dksL_law_45 23 rfl rfl)
theorem dL_law_1219 : decode cL_law 1219 = .ok (.laload, 1) := dk_47 (dk_at dksL_law_46 0 rfl rfl)
theorem dL_law_1220 : decode cL_law 1220 = .ok (.iload 7, 2) := dk_21 7 (dk_at dksL_law_46 1 rfl rfl)
theorem dL_law_1222 : decode cL_law 1222 = .ok (.i2l, 1) := dk_133 (dk_at dksL_law_46 3 rfl rfl)
theorem dL_law_1223 : decode cL_law 1223 = .ok (.lcmp, 1) := dk_148 (dk_at dksL_law_46 4 rfl rfl)
theorem dL_law_1224 : decode cL_law 1224 = .ok (.ifCond .eq 5, 3) := dk_153 0 5 (dk_at dksL_law_46 5 rfl rfl)
theorem dL_law_1227 : decode cL_law 1227 = .ok (.iconst 0, 1) := dk_3 (dk_at dksL_law_46 8 rfl rfl)
theorem dL_law_1228 : decode cL_law 1228 = .ok (.ireturn, 1) := dk_172 (dk_at dksL_law_46 9 rfl rfl)
theorem dL_law_1229 : decode cL_law 1229 = .ok (.goto 1217, 3) := dk_167 4 193 (dk_at dksL_law_46 10 rfl rfl)
theorem dL_law_1232 : decode cL_law 1232 = .ok (.aload_n 1, 1) := dk_43 (dk_at dksL_law_46 13 rfl rfl)
theorem dL_law_1233 : decode cL_law 1233 = .ok (.aload_n 3, 1) := dk_45 (dk_at dksL_law_46 14 rfl rfl)
theorem dL_law_1234 : decode cL_law 1234 = .ok (.invokestatic 205, 3) := dk_184 0 205 (dk_at dksL_law_46 15 rfl rfl)
theorem dL_law_1237 : decode cL_law 1237 = .ok (.istore 6, 2) := dk_54 6 (dk_at dksL_law_46 18 rfl rfl)
theorem dL_law_1239 : decode cL_law 1239 = .ok (.aload_n 2, 1) := dk_44 (dk_at dksL_law_46 20 rfl rfl)
theorem dL_law_1240 : decode cL_law 1240 = .ok (.invokevirtual 207, 3) := dk_182 0 207 (dk_at dksL_law_46 21 rfl rfl)
theorem dL_law_1243 : decode cL_law 1243 = .ok (.istore 7, 2) := dk_54 7 (dk_at dksL_law_47 0 rfl rfl)
theorem dL_law_1245 : decode cL_law 1245 = .ok (.aload_n 2, 1) := dk_44 (dk_at dksL_law_47 2 rfl rfl)
theorem dL_law_1246 : decode cL_law 1246 = .ok (.invokevirtual 153, 3) := dk_182 0 153 (dk_at dksL_law_47 3 rfl rfl)
theorem dL_law_1249 : decode cL_law 1249 = .ok (.iload 6, 2) := dk_21 6 (dk_at dksL_law_47 6 rfl rfl)
theorem dL_law_1251 : decode cL_law 1251 = .ok (.if_icmp .eq 5, 3) := dk_159 0 5 (dk_at dksL_law_47 8 rfl rfl)
theorem dL_law_1254 : decode cL_law 1254 = .ok (.iconst 0, 1) := dk_3 (dk_at dksL_law_47 11 rfl rfl)
theorem dL_law_1255 : decode cL_law 1255 = .ok (.ireturn, 1) := dk_172 (dk_at dksL_law_47 12 rfl rfl)
theorem dL_law_1256 : decode cL_law 1256 = .ok (.iload 6, 2) := dk_21 6 (dk_at dksL_law_47 13 rfl rfl)
theorem dL_law_1258 : decode cL_law 1258 = .ok (.ifCond .ne 15, 3) := dk_154 0 15 (dk_at dksL_law_47 15 rfl rfl)
theorem dL_law_1261 : decode cL_law 1261 = .ok (.aload_n 3, 1) := dk_45 (dk_at dksL_law_47 18 rfl rfl)
theorem dL_law_1262 : decode cL_law 1262 = .ok (.iconst 0, 1) := dk_3 (dk_at dksL_law_47 19 rfl rfl)
theorem dL_law_1263 : decode cL_law 1263 = .ok (.laload, 1) := dk_47 (dk_at dksL_law_47 20 rfl rfl)
theorem dL_law_1264 : decode cL_law 1264 = .ok (.iload 7, 2) := dk_21 7 (dk_at dksL_law_47 21 rfl rfl)
theorem dL_law_1266 : decode cL_law 1266 = .ok (.i2l, 1) := dk_133 (dk_at dksL_law_47 23 rfl rfl)
theorem dL_law_1267 : decode cL_law 1267 = .ok (.lcmp, 1) := dk_148 (dk_at dksL_law_48 0 rfl rfl)
theorem dL_law_1268 : decode cL_law 1268 = .ok (.ifCond .eq 5, 3) := dk_153 0 5 (dk_at dksL_law_48 1 rfl rfl)
theorem dL_law_1271 : decode cL_law 1271 = .ok (.iconst 0, 1) := dk_3 (dk_at dksL_law_48 4 rfl rfl)
theorem dL_law_1272 : decode cL_law 1272 = .ok (.ireturn, 1) := dk_172 (dk_at dksL_law_48 5 rfl rfl)
theorem dL_law_1273 : decode cL_law 1273 = .ok (.goto 1173, 3) := dk_167 4 149 (dk_at dksL_law_48 6 rfl rfl)
theorem dL_law_1276 : decode cL_law 1276 = .ok (.aload_n 1, 1) := dk_43 (dk_at dksL_law_48 9 rfl rfl)
theorem dL_law_1277 : decode cL_law 1277 = .ok (.aload_n 0, 1) := dk_42 (dk_at dksL_law_48 10 rfl rfl)
theorem dL_law_1278 : decode cL_law 1278 = .ok (.iload 5, 2) := dk_21 5 (dk_at dksL_law_48 11 rfl rfl)
theorem dL_law_1280 : decode cL_law 1280 = .ok (.iconst 1, 1) := dk_4 (dk_at dksL_law_48 13 rfl rfl)
theorem dL_law_1281 : decode cL_law 1281 = .ok (.iadd, 1) := dk_96 (dk_at dksL_law_48 14 rfl rfl)
theorem dL_law_1282 : decode cL_law 1282 = .ok (.iaload, 1) := dk_46 (dk_at dksL_law_48 15 rfl rfl)
theorem dL_law_1283 : decode cL_law 1283 = .ok (.aload_n 3, 1) := dk_45 (dk_at dksL_law_48 16 rfl rfl)
theorem dL_law_1284 : decode cL_law 1284 = .ok (.invokestatic 208, 3) := dk_184 0 208 (dk_at dksL_law_48 17 rfl rfl)
theorem dL_law_1287 : decode cL_law 1287 = .ok (.istore 6, 2) := dk_54 6 (dk_at dksL_law_48 20 rfl rfl)
theorem dL_law_1289 : decode cL_law 1289 = .ok (.aload_n 2, 1) := dk_44 (dk_at dksL_law_48 22 rfl rfl)
theorem dL_law_1290 : decode cL_law 1290 = .ok (.aload_n 0, 1) := dk_42 (dk_at dksL_law_48 23 rfl rfl)
theorem dL_law_1291 : decode cL_law 1291 = .ok (.iload 5, 2) := dk_21 5 (dk_at dksL_law_49 0 rfl rfl)
theorem dL_law_1293 : decode cL_law 1293 = .ok (.iconst 1, 1) := dk_4 (dk_at dksL_law_49 2 rfl rfl)
theorem dL_law_1294 : decode cL_law 1294 = .ok (.iadd, 1) := dk_96 (dk_at dksL_law_49 3 rfl rfl)
theorem dL_law_1295 : decode cL_law 1295 = .ok (.iaload, 1) := dk_46 (dk_at dksL_law_49 4 rfl rfl)
theorem dL_law_1296 : decode cL_law 1296 = .ok (.invokevirtual 210, 3) := dk_182 0 210 (dk_at dksL_law_49 5 rfl rfl)
theorem dL_law_1299 : decode cL_law 1299 = .ok (.istore 7, 2) := dk_54 7 (dk_at dksL_law_49 8 rfl rfl)
theorem dL_law_1301 : decode cL_law 1301 = .ok (.aload_n 2, 1) := dk_44 (dk_at dksL_law_49 10 rfl rfl)
theorem dL_law_1302 : decode cL_law 1302 = .ok (.invokevirtual 153, 3) := dk_182 0 153 (dk_at dksL_law_49 11 rfl rfl)
theorem dL_law_1305 : decode cL_law 1305 = .ok (.iload 6, 2) := dk_21 6 (dk_at dksL_law_49 14 rfl rfl)
theorem dL_law_1307 : decode cL_law 1307 = .ok (.if_icmp .eq 5, 3) := dk_159 0 5 (dk_at dksL_law_49 16 rfl rfl)
theorem dL_law_1310 : decode cL_law 1310 = .ok (.iconst 0, 1) := dk_3 (dk_at dksL_law_49 19 rfl rfl)
theorem dL_law_1311 : decode cL_law 1311 = .ok (.ireturn, 1) := dk_172 (dk_at dksL_law_49 20 rfl rfl)
theorem dL_law_1312 : decode cL_law 1312 = .ok (.iload 6, 2) := dk_21 6 (dk_at dksL_law_49 21 rfl rfl)
theorem dL_law_1314 : decode cL_law 1314 = .ok (.ifCond .ne 15, 3) := dk_154 0 15 (dk_at dksL_law_50 0 rfl rfl)
theorem dL_law_1317 : decode cL_law 1317 = .ok (.aload_n 3, 1) := dk_45 (dk_at dksL_law_50 3 rfl rfl)
theorem dL_law_1318 : decode cL_law 1318 = .ok (.iconst 0, 1) := dk_3 (dk_at dksL_law_50 4 rfl rfl)
theorem dL_law_1319 : decode cL_law 1319 = .ok (.laload, 1) := dk_47 (dk_at dksL_law_50 5 rfl rfl)
theorem dL_law_1320 : decode cL_law 1320 = .ok (.iload 7, 2) := dk_21 7 (dk_at dksL_law_50 6 rfl rfl)
theorem dL_law_1322 : decode cL_law 1322 = .ok (.i2l, 1) := dk_133 (dk_at dksL_law_50 8 rfl rfl)
theorem dL_law_1323 : decode cL_law 1323 = .ok (.lcmp, 1) := dk_148 (dk_at dksL_law_50 9 rfl rfl)
theorem dL_law_1324 : decode cL_law 1324 = .ok (.ifCond .eq 5, 3) := dk_153 0 5 (dk_at dksL_law_50 10 rfl rfl)
theorem dL_law_1327 : decode cL_law 1327 = .ok (.iconst 0, 1) := dk_3 (dk_at dksL_law_50 13 rfl rfl)
theorem dL_law_1328 : decode cL_law 1328 = .ok (.ireturn, 1) := dk_172 (dk_at dksL_law_50 14 rfl rfl)
theorem dL_law_1329 : decode cL_law 1329 = .ok (.goto 1117, 3) := dk_167 4 93 (dk_at dksL_law_50 15 rfl rfl)
theorem dL_law_1332 : decode cL_law 1332 = .ok (.aload_n 1, 1) := dk_43 (dk_at dksL_law_50 18 rfl rfl)
theorem dL_law_1333 : decode cL_law 1333 = .ok (.aload_n 3, 1) := dk_45 (dk_at dksL_law_50 19 rfl rfl)
theorem dL_law_1334 : decode cL_law 1334 = .ok (.invokestatic 211, 3) := dk_184 0 211 (dk_at dksL_law_50 20 rfl rfl)
theorem dL_law_1337 : decode cL_law 1337 = .ok (.istore 6, 2) := dk_54 6 (dk_at dksL_law_51 0 rfl rfl)
theorem dL_law_1339 : decode cL_law 1339 = .ok (.aload_n 2, 1) := dk_44 (dk_at dksL_law_51 2 rfl rfl)
theorem dL_law_1340 : decode cL_law 1340 = .ok (.invokevirtual 213, 3) := dk_182 0 213 (dk_at dksL_law_51 3 rfl rfl)
theorem dL_law_1343 : decode cL_law 1343 = .ok (.istore 7, 2) := dk_54 7 (dk_at dksL_law_51 6 rfl rfl)
theorem dL_law_1345 : decode cL_law 1345 = .ok (.aload_n 2, 1) := dk_44 (dk_at dksL_law_51 8 rfl rfl)
theorem dL_law_1346 : decode cL_law 1346 = .ok (.invokevirtual 153, 3) := dk_182 0 153 (dk_at dksL_law_51 9 rfl rfl)
theorem dL_law_1349 : decode cL_law 1349 = .ok (.iload 6, 2) := dk_21 6 (dk_at dksL_law_51 12 rfl rfl)
theorem dL_law_1351 : decode cL_law 1351 = .ok (.if_icmp .eq 5, 3) := dk_159 0 5 (dk_at dksL_law_51 14 rfl rfl)
theorem dL_law_1354 : decode cL_law 1354 = .ok (.iconst 0, 1) := dk_3 (dk_at dksL_law_51 17 rfl rfl)
theorem dL_law_1355 : decode cL_law 1355 = .ok (.ireturn, 1) := dk_172 (dk_at dksL_law_51 18 rfl rfl)
theorem dL_law_1356 : decode cL_law 1356 = .ok (.iload 6, 2) := dk_21 6 (dk_at dksL_law_51 19 rfl rfl)
theorem dL_law_1358 : decode cL_law 1358 = .ok (.ifCond .ne 15, 3) := dk_154 0 15 (dk_at dksL_law_51 21 rfl rfl)
theorem dL_law_1361 : decode cL_law 1361 = .ok (.aload_n 3, 1) := dk_45 (dk_at dksL_law_52 0 rfl rfl)
theorem dL_law_1362 : decode cL_law 1362 = .ok (.iconst 0, 1) := dk_3 (dk_at dksL_law_52 1 rfl rfl)
theorem dL_law_1363 : decode cL_law 1363 = .ok (.laload, 1) := dk_47 (dk_at dksL_law_52 2 rfl rfl)
theorem dL_law_1364 : decode cL_law 1364 = .ok (.iload 7, 2) := dk_21 7 (dk_at dksL_law_52 3 rfl rfl)
theorem dL_law_1366 : decode cL_law 1366 = .ok (.i2l, 1) := dk_133 (dk_at dksL_law_52 5 rfl rfl)
theorem dL_law_1367 : decode cL_law 1367 = .ok (.lcmp, 1) := dk_148 (dk_at dksL_law_52 6 rfl rfl)
theorem dL_law_1368 : decode cL_law 1368 = .ok (.ifCond .eq 5, 3) := dk_153 0 5 (dk_at dksL_law_52 7 rfl rfl)
theorem dL_law_1371 : decode cL_law 1371 = .ok (.iconst 0, 1) := dk_3 (dk_at dksL_law_52 10 rfl rfl)
theorem dL_law_1372 : decode cL_law 1372 = .ok (.ireturn, 1) := dk_172 (dk_at dksL_law_52 11 rfl rfl)
theorem dL_law_1373 : decode cL_law 1373 = .ok (.goto 1073, 3) := dk_167 4 49 (dk_at dksL_law_52 12 rfl rfl)
theorem dL_law_1376 : decode cL_law 1376 = .ok (.aload_n 1, 1) := dk_43 (dk_at dksL_law_52 15 rfl rfl)
theorem dL_law_1377 : decode cL_law 1377 = .ok (.aload_n 0, 1) := dk_42 (dk_at dksL_law_52 16 rfl rfl)
theorem dL_law_1378 : decode cL_law 1378 = .ok (.iload 5, 2) := dk_21 5 (dk_at dksL_law_52 17 rfl rfl)
theorem dL_law_1380 : decode cL_law 1380 = .ok (.iconst 1, 1) := dk_4 (dk_at dksL_law_52 19 rfl rfl)
theorem dL_law_1381 : decode cL_law 1381 = .ok (.iadd, 1) := dk_96 (dk_at dksL_law_52 20 rfl rfl)
theorem dL_law_1382 : decode cL_law 1382 = .ok (.iaload, 1) := dk_46 (dk_at dksL_law_52 21 rfl rfl)
theorem dL_law_1383 : decode cL_law 1383 = .ok (.aload_n 0, 1) := dk_42 (dk_at dksL_law_52 22 rfl rfl)
theorem dL_law_1384 : decode cL_law 1384 = .ok (.iload 5, 2) := dk_21 5 (dk_at dksL_law_53 0 rfl rfl)
theorem dL_law_1386 : decode cL_law 1386 = .ok (.iconst 2, 1) := dk_5 (dk_at dksL_law_53 2 rfl rfl)
theorem dL_law_1387 : decode cL_law 1387 = .ok (.iadd, 1) := dk_96 (dk_at dksL_law_53 3 rfl rfl)
theorem dL_law_1388 : decode cL_law 1388 = .ok (.iaload, 1) := dk_46 (dk_at dksL_law_53 4 rfl rfl)
theorem dL_law_1389 : decode cL_law 1389 = .ok (.aload_n 3, 1) := dk_45 (dk_at dksL_law_53 5 rfl rfl)
theorem dL_law_1390 : decode cL_law 1390 = .ok (.invokestatic 214, 3) := dk_184 0 214 (dk_at dksL_law_53 6 rfl rfl)
theorem dL_law_1393 : decode cL_law 1393 = .ok (.istore 6, 2) := dk_54 6 (dk_at dksL_law_53 9 rfl rfl)
theorem dL_law_1395 : decode cL_law 1395 = .ok (.aload_n 2, 1) := dk_44 (dk_at dksL_law_53 11 rfl rfl)
theorem dL_law_1396 : decode cL_law 1396 = .ok (.aload_n 0, 1) := dk_42 (dk_at dksL_law_53 12 rfl rfl)
theorem dL_law_1397 : decode cL_law 1397 = .ok (.iload 5, 2) := dk_21 5 (dk_at dksL_law_53 13 rfl rfl)
theorem dL_law_1399 : decode cL_law 1399 = .ok (.iconst 1, 1) := dk_4 (dk_at dksL_law_53 15 rfl rfl)
theorem dL_law_1400 : decode cL_law 1400 = .ok (.iadd, 1) := dk_96 (dk_at dksL_law_53 16 rfl rfl)
theorem dL_law_1401 : decode cL_law 1401 = .ok (.iaload, 1) := dk_46 (dk_at dksL_law_53 17 rfl rfl)
theorem dL_law_1402 : decode cL_law 1402 = .ok (.aload_n 0, 1) := dk_42 (dk_at dksL_law_53 18 rfl rfl)
theorem dL_law_1403 : decode cL_law 1403 = .ok (.iload 5, 2) := dk_21 5 (dk_at dksL_law_53 19 rfl rfl)
theorem dL_law_1405 : decode cL_law 1405 = .ok (.iconst 2, 1) := dk_5 (dk_at dksL_law_53 21 rfl rfl)
theorem dL_law_1406 : decode cL_law 1406 = .ok (.iadd, 1) := dk_96 (dk_at dksL_law_53 22 rfl rfl)
theorem dL_law_1407 : decode cL_law 1407 = .ok (.iaload, 1) := dk_46 (dk_at dksL_law_53 23 rfl rfl)
theorem dL_law_1408 : decode cL_law 1408 = .ok (.invokevirtual 216, 3) := dk_182 0 216 (dk_at dksL_law_54 0 rfl rfl)
theorem dL_law_1411 : decode cL_law 1411 = .ok (.istore 7, 2) := dk_54 7 (dk_at dksL_law_54 3 rfl rfl)
theorem dL_law_1413 : decode cL_law 1413 = .ok (.aload_n 2, 1) := dk_44 (dk_at dksL_law_54 5 rfl rfl)
theorem dL_law_1414 : decode cL_law 1414 = .ok (.invokevirtual 153, 3) := dk_182 0 153 (dk_at dksL_law_54 6 rfl rfl)
theorem dL_law_1417 : decode cL_law 1417 = .ok (.iload 6, 2) := dk_21 6 (dk_at dksL_law_54 9 rfl rfl)
theorem dL_law_1419 : decode cL_law 1419 = .ok (.if_icmp .eq 5, 3) := dk_159 0 5 (dk_at dksL_law_54 11 rfl rfl)
theorem dL_law_1422 : decode cL_law 1422 = .ok (.iconst 0, 1) := dk_3 (dk_at dksL_law_54 14 rfl rfl)
theorem dL_law_1423 : decode cL_law 1423 = .ok (.ireturn, 1) := dk_172 (dk_at dksL_law_54 15 rfl rfl)
theorem dL_law_1424 : decode cL_law 1424 = .ok (.iload 6, 2) := dk_21 6 (dk_at dksL_law_54 16 rfl rfl)
theorem dL_law_1426 : decode cL_law 1426 = .ok (.ifCond .ne 15, 3) := dk_154 0 15 (dk_at dksL_law_54 18 rfl rfl)
theorem dL_law_1429 : decode cL_law 1429 = .ok (.aload_n 3, 1) := dk_45 (dk_at dksL_law_54 21 rfl rfl)
theorem dL_law_1430 : decode cL_law 1430 = .ok (.iconst 0, 1) := dk_3 (dk_at dksL_law_54 22 rfl rfl)
theorem dL_law_1431 : decode cL_law 1431 = .ok (.laload, 1) := dk_47 (dk_at dksL_law_54 23 rfl rfl)
theorem dL_law_1432 : decode cL_law 1432 = .ok (.iload 7, 2) := dk_21 7 (dk_at dksL_law_55 0 rfl rfl)
theorem dL_law_1434 : decode cL_law 1434 = .ok (.i2l, 1) := dk_133 (dk_at dksL_law_55 2 rfl rfl)
theorem dL_law_1435 : decode cL_law 1435 = .ok (.lcmp, 1) := dk_148 (dk_at dksL_law_55 3 rfl rfl)
theorem dL_law_1436 : decode cL_law 1436 = .ok (.ifCond .eq 5, 3) := dk_153 0 5 (dk_at dksL_law_55 4 rfl rfl)
theorem dL_law_1439 : decode cL_law 1439 = .ok (.iconst 0, 1) := dk_3 (dk_at dksL_law_55 7 rfl rfl)
theorem dL_law_1440 : decode cL_law 1440 = .ok (.ireturn, 1) := dk_172 (dk_at dksL_law_55 8 rfl rfl)
theorem dL_law_1441 : decode cL_law 1441 = .ok (.goto 1005, 3) := dk_167 3 237 (dk_at dksL_law_55 9 rfl rfl)
theorem dL_law_1444 : decode cL_law 1444 = .ok (.aload_n 1, 1) := dk_43 (dk_at dksL_law_55 12 rfl rfl)
theorem dL_law_1445 : decode cL_law 1445 = .ok (.aload_n 0, 1) := dk_42 (dk_at dksL_law_55 13 rfl rfl)
theorem dL_law_1446 : decode cL_law 1446 = .ok (.iload 5, 2) := dk_21 5 (dk_at dksL_law_55 14 rfl rfl)
theorem dL_law_1448 : decode cL_law 1448 = .ok (.iconst 1, 1) := dk_4 (dk_at dksL_law_55 16 rfl rfl)
theorem dL_law_1449 : decode cL_law 1449 = .ok (.iadd, 1) := dk_96 (dk_at dksL_law_55 17 rfl rfl)
theorem dL_law_1450 : decode cL_law 1450 = .ok (.iaload, 1) := dk_46 (dk_at dksL_law_55 18 rfl rfl)
theorem dL_law_1451 : decode cL_law 1451 = .ok (.aload_n 3, 1) := dk_45 (dk_at dksL_law_55 19 rfl rfl)
theorem dL_law_1452 : decode cL_law 1452 = .ok (.invokestatic 217, 3) := dk_184 0 217 (dk_at dksL_law_55 20 rfl rfl)
theorem dL_law_1455 : decode cL_law 1455 = .ok (.istore 6, 2) := dk_54 6 (dk_at dksL_law_56 0 rfl rfl)
theorem dL_law_1457 : decode cL_law 1457 = .ok (.aload_n 2, 1) := dk_44 (dk_at dksL_law_56 2 rfl rfl)
theorem dL_law_1458 : decode cL_law 1458 = .ok (.aload_n 0, 1) := dk_42 (dk_at dksL_law_56 3 rfl rfl)
theorem dL_law_1459 : decode cL_law 1459 = .ok (.iload 5, 2) := dk_21 5 (dk_at dksL_law_56 4 rfl rfl)
theorem dL_law_1461 : decode cL_law 1461 = .ok (.iconst 1, 1) := dk_4 (dk_at dksL_law_56 6 rfl rfl)
theorem dL_law_1462 : decode cL_law 1462 = .ok (.iadd, 1) := dk_96 (dk_at dksL_law_56 7 rfl rfl)
theorem dL_law_1463 : decode cL_law 1463 = .ok (.iaload, 1) := dk_46 (dk_at dksL_law_56 8 rfl rfl)
theorem dL_law_1464 : decode cL_law 1464 = .ok (.invokevirtual 219, 3) := dk_182 0 219 (dk_at dksL_law_56 9 rfl rfl)
theorem dL_law_1467 : decode cL_law 1467 = .ok (.istore 7, 2) := dk_54 7 (dk_at dksL_law_56 12 rfl rfl)
theorem dL_law_1469 : decode cL_law 1469 = .ok (.aload_n 2, 1) := dk_44 (dk_at dksL_law_56 14 rfl rfl)
theorem dL_law_1470 : decode cL_law 1470 = .ok (.invokevirtual 153, 3) := dk_182 0 153 (dk_at dksL_law_56 15 rfl rfl)
theorem dL_law_1473 : decode cL_law 1473 = .ok (.iload 6, 2) := dk_21 6 (dk_at dksL_law_56 18 rfl rfl)
theorem dL_law_1475 : decode cL_law 1475 = .ok (.if_icmp .eq 5, 3) := dk_159 0 5 (dk_at dksL_law_56 20 rfl rfl)
theorem dL_law_1478 : decode cL_law 1478 = .ok (.iconst 0, 1) := dk_3 (dk_at dksL_law_56 23 rfl rfl)
theorem dL_law_1479 : decode cL_law 1479 = .ok (.ireturn, 1) := dk_172 (dk_at dksL_law_57 0 rfl rfl)
theorem dL_law_1480 : decode cL_law 1480 = .ok (.iload 6, 2) := dk_21 6 (dk_at dksL_law_57 1 rfl rfl)
theorem dL_law_1482 : decode cL_law 1482 = .ok (.ifCond .ne 15, 3) := dk_154 0 15 (dk_at dksL_law_57 3 rfl rfl)
theorem dL_law_1485 : decode cL_law 1485 = .ok (.aload_n 3, 1) := dk_45 (dk_at dksL_law_57 6 rfl rfl)
theorem dL_law_1486 : decode cL_law 1486 = .ok (.iconst 0, 1) := dk_3 (dk_at dksL_law_57 7 rfl rfl)
theorem dL_law_1487 : decode cL_law 1487 = .ok (.laload, 1) := dk_47 (dk_at dksL_law_57 8 rfl rfl)
theorem dL_law_1488 : decode cL_law 1488 = .ok (.iload 7, 2) := dk_21 7 (dk_at dksL_law_57 9 rfl rfl)
theorem dL_law_1490 : decode cL_law 1490 = .ok (.i2l, 1) := dk_133 (dk_at dksL_law_57 11 rfl rfl)
theorem dL_law_1491 : decode cL_law 1491 = .ok (.lcmp, 1) := dk_148 (dk_at dksL_law_57 12 rfl rfl)
theorem dL_law_1492 : decode cL_law 1492 = .ok (.ifCond .eq 5, 3) := dk_153 0 5 (dk_at dksL_law_57 13 rfl rfl)
theorem dL_law_1495 : decode cL_law 1495 = .ok (.iconst 0, 1) := dk_3 (dk_at dksL_law_57 16 rfl rfl)
theorem dL_law_1496 : decode cL_law 1496 = .ok (.ireturn, 1) := dk_172 (dk_at dksL_law_57 17 rfl rfl)
theorem dL_law_1497 : decode cL_law 1497 = .ok (.goto 949, 3) := dk_167 3 181 (dk_at dksL_law_57 18 rfl rfl)
theorem dL_law_1500 : decode cL_law 1500 = .ok (.aload_n 1, 1) := dk_43 (dk_at dksL_law_57 21 rfl rfl)
theorem dL_law_1501 : decode cL_law 1501 = .ok (.aload_n 0, 1) := dk_42 (dk_at dksL_law_57 22 rfl rfl)
theorem dL_law_1502 : decode cL_law 1502 = .ok (.iload 5, 2) := dk_21 5 (dk_at dksL_law_58 0 rfl rfl)
theorem dL_law_1504 : decode cL_law 1504 = .ok (.iconst 1, 1) := dk_4 (dk_at dksL_law_58 2 rfl rfl)
theorem dL_law_1505 : decode cL_law 1505 = .ok (.iadd, 1) := dk_96 (dk_at dksL_law_58 3 rfl rfl)
theorem dL_law_1506 : decode cL_law 1506 = .ok (.iaload, 1) := dk_46 (dk_at dksL_law_58 4 rfl rfl)
theorem dL_law_1507 : decode cL_law 1507 = .ok (.aload_n 0, 1) := dk_42 (dk_at dksL_law_58 5 rfl rfl)
theorem dL_law_1508 : decode cL_law 1508 = .ok (.iload 5, 2) := dk_21 5 (dk_at dksL_law_58 6 rfl rfl)
theorem dL_law_1510 : decode cL_law 1510 = .ok (.iconst 2, 1) := dk_5 (dk_at dksL_law_58 8 rfl rfl)
theorem dL_law_1511 : decode cL_law 1511 = .ok (.iadd, 1) := dk_96 (dk_at dksL_law_58 9 rfl rfl)
theorem dL_law_1512 : decode cL_law 1512 = .ok (.iaload, 1) := dk_46 (dk_at dksL_law_58 10 rfl rfl)
theorem dL_law_1513 : decode cL_law 1513 = .ok (.aload_n 0, 1) := dk_42 (dk_at dksL_law_58 11 rfl rfl)
theorem dL_law_1514 : decode cL_law 1514 = .ok (.iload 5, 2) := dk_21 5 (dk_at dksL_law_58 12 rfl rfl)
theorem dL_law_1516 : decode cL_law 1516 = .ok (.iconst 3, 1) := dk_6 (dk_at dksL_law_58 14 rfl rfl)
theorem dL_law_1517 : decode cL_law 1517 = .ok (.iadd, 1) := dk_96 (dk_at dksL_law_58 15 rfl rfl)
theorem dL_law_1518 : decode cL_law 1518 = .ok (.iaload, 1) := dk_46 (dk_at dksL_law_58 16 rfl rfl)
theorem dL_law_1519 : decode cL_law 1519 = .ok (.aload_n 0, 1) := dk_42 (dk_at dksL_law_58 17 rfl rfl)
theorem dL_law_1520 : decode cL_law 1520 = .ok (.iload 5, 2) := dk_21 5 (dk_at dksL_law_58 18 rfl rfl)
theorem dL_law_1522 : decode cL_law 1522 = .ok (.iconst 4, 1) := dk_7 (dk_at dksL_law_58 20 rfl rfl)
theorem dL_law_1523 : decode cL_law 1523 = .ok (.iadd, 1) := dk_96 (dk_at dksL_law_58 21 rfl rfl)
theorem dL_law_1524 : decode cL_law 1524 = .ok (.iaload, 1) := dk_46 (dk_at dksL_law_58 22 rfl rfl)
theorem dL_law_1525 : decode cL_law 1525 = .ok (.aload_n 3, 1) := dk_45 (dk_at dksL_law_58 23 rfl rfl)
theorem dL_law_1526 : decode cL_law 1526 = .ok (.invokestatic 220, 3) := dk_184 0 220 (dk_at dksL_law_59 0 rfl rfl)
theorem dL_law_1529 : decode cL_law 1529 = .ok (.istore 6, 2) := dk_54 6 (dk_at dksL_law_59 3 rfl rfl)
theorem dL_law_1531 : decode cL_law 1531 = .ok (.aload_n 2, 1) := dk_44 (dk_at dksL_law_59 5 rfl rfl)
theorem dL_law_1532 : decode cL_law 1532 = .ok (.aload_n 0, 1) := dk_42 (dk_at dksL_law_59 6 rfl rfl)
theorem dL_law_1533 : decode cL_law 1533 = .ok (.iload 5, 2) := dk_21 5 (dk_at dksL_law_59 7 rfl rfl)
theorem dL_law_1535 : decode cL_law 1535 = .ok (.iconst 1, 1) := dk_4 (dk_at dksL_law_59 9 rfl rfl)
theorem dL_law_1536 : decode cL_law 1536 = .ok (.iadd, 1) := dk_96 (dk_at dksL_law_59 10 rfl rfl)
theorem dL_law_1537 : decode cL_law 1537 = .ok (.iaload, 1) := dk_46 (dk_at dksL_law_59 11 rfl rfl)
theorem dL_law_1538 : decode cL_law 1538 = .ok (.aload_n 0, 1) := dk_42 (dk_at dksL_law_59 12 rfl rfl)
theorem dL_law_1539 : decode cL_law 1539 = .ok (.iload 5, 2) := dk_21 5 (dk_at dksL_law_59 13 rfl rfl)
theorem dL_law_1541 : decode cL_law 1541 = .ok (.iconst 2, 1) := dk_5 (dk_at dksL_law_59 15 rfl rfl)
theorem dL_law_1542 : decode cL_law 1542 = .ok (.iadd, 1) := dk_96 (dk_at dksL_law_59 16 rfl rfl)
theorem dL_law_1543 : decode cL_law 1543 = .ok (.iaload, 1) := dk_46 (dk_at dksL_law_59 17 rfl rfl)
theorem dL_law_1544 : decode cL_law 1544 = .ok (.aload_n 0, 1) := dk_42 (dk_at dksL_law_59 18 rfl rfl)
theorem dL_law_1545 : decode cL_law 1545 = .ok (.iload 5, 2) := dk_21 5 (dk_at dksL_law_59 19 rfl rfl)
theorem dL_law_1547 : decode cL_law 1547 = .ok (.iconst 3, 1) := dk_6 (dk_at dksL_law_59 21 rfl rfl)
theorem dL_law_1548 : decode cL_law 1548 = .ok (.iadd, 1) := dk_96 (dk_at dksL_law_59 22 rfl rfl)
theorem dL_law_1549 : decode cL_law 1549 = .ok (.iaload, 1) := dk_46 (dk_at dksL_law_59 23 rfl rfl)
theorem dL_law_1550 : decode cL_law 1550 = .ok (.aload_n 0, 1) := dk_42 (dk_at dksL_law_60 0 rfl rfl)
theorem dL_law_1551 : decode cL_law 1551 = .ok (.iload 5, 2) := dk_21 5 (dk_at dksL_law_60 1 rfl rfl)
theorem dL_law_1553 : decode cL_law 1553 = .ok (.iconst 4, 1) := dk_7 (dk_at dksL_law_60 3 rfl rfl)
theorem dL_law_1554 : decode cL_law 1554 = .ok (.iadd, 1) := dk_96 (dk_at dksL_law_60 4 rfl rfl)
theorem dL_law_1555 : decode cL_law 1555 = .ok (.iaload, 1) := dk_46 (dk_at dksL_law_60 5 rfl rfl)
theorem dL_law_1556 : decode cL_law 1556 = .ok (.invokevirtual 223, 3) := dk_182 0 223 (dk_at dksL_law_60 6 rfl rfl)
theorem dL_law_1559 : decode cL_law 1559 = .ok (.istore 7, 2) := dk_54 7 (dk_at dksL_law_60 9 rfl rfl)
theorem dL_law_1561 : decode cL_law 1561 = .ok (.aload_n 2, 1) := dk_44 (dk_at dksL_law_60 11 rfl rfl)
theorem dL_law_1562 : decode cL_law 1562 = .ok (.invokevirtual 153, 3) := dk_182 0 153 (dk_at dksL_law_60 12 rfl rfl)
theorem dL_law_1565 : decode cL_law 1565 = .ok (.iload 6, 2) := dk_21 6 (dk_at dksL_law_60 15 rfl rfl)
theorem dL_law_1567 : decode cL_law 1567 = .ok (.if_icmp .eq 5, 3) := dk_159 0 5 (dk_at dksL_law_60 17 rfl rfl)
theorem dL_law_1570 : decode cL_law 1570 = .ok (.iconst 0, 1) := dk_3 (dk_at dksL_law_60 20 rfl rfl)
theorem dL_law_1571 : decode cL_law 1571 = .ok (.ireturn, 1) := dk_172 (dk_at dksL_law_60 21 rfl rfl)
theorem dL_law_1572 : decode cL_law 1572 = .ok (.iload 6, 2) := dk_21 6 (dk_at dksL_law_60 22 rfl rfl)
theorem dL_law_1574 : decode cL_law 1574 = .ok (.ifCond .ne 15, 3) := dk_154 0 15 (dk_at dksL_law_61 0 rfl rfl)
theorem dL_law_1577 : decode cL_law 1577 = .ok (.aload_n 3, 1) := dk_45 (dk_at dksL_law_61 3 rfl rfl)
theorem dL_law_1578 : decode cL_law 1578 = .ok (.iconst 0, 1) := dk_3 (dk_at dksL_law_61 4 rfl rfl)
theorem dL_law_1579 : decode cL_law 1579 = .ok (.laload, 1) := dk_47 (dk_at dksL_law_61 5 rfl rfl)
theorem dL_law_1580 : decode cL_law 1580 = .ok (.iload 7, 2) := dk_21 7 (dk_at dksL_law_61 6 rfl rfl)
theorem dL_law_1582 : decode cL_law 1582 = .ok (.i2l, 1) := dk_133 (dk_at dksL_law_61 8 rfl rfl)
theorem dL_law_1583 : decode cL_law 1583 = .ok (.lcmp, 1) := dk_148 (dk_at dksL_law_61 9 rfl rfl)
theorem dL_law_1584 : decode cL_law 1584 = .ok (.ifCond .eq 5, 3) := dk_153 0 5 (dk_at dksL_law_61 10 rfl rfl)
theorem dL_law_1587 : decode cL_law 1587 = .ok (.iconst 0, 1) := dk_3 (dk_at dksL_law_61 13 rfl rfl)
theorem dL_law_1588 : decode cL_law 1588 = .ok (.ireturn, 1) := dk_172 (dk_at dksL_law_61 14 rfl rfl)
theorem dL_law_1589 : decode cL_law 1589 = .ok (.goto 857, 3) := dk_167 3 89 (dk_at dksL_law_61 15 rfl rfl)
theorem dL_law_1592 : decode cL_law 1592 = .ok (.aload_n 1, 1) := dk_43 (dk_at dksL_law_61 18 rfl rfl)
theorem dL_law_1593 : decode cL_law 1593 = .ok (.aload_n 0, 1) := dk_42 (dk_at dksL_law_61 19 rfl rfl)
theorem dL_law_1594 : decode cL_law 1594 = .ok (.iload 5, 2) := dk_21 5 (dk_at dksL_law_61 20 rfl rfl)
theorem dL_law_1596 : decode cL_law 1596 = .ok (.iconst 1, 1) := dk_4 (dk_at dksL_law_61 22 rfl rfl)
theorem dL_law_1597 : decode cL_law 1597 = .ok (.iadd, 1) := dk_96 (dk_at dksL_law_61 23 rfl rfl)
theorem dL_law_1598 : decode cL_law 1598 = .ok (.iaload, 1) := dk_46 (dk_at dksL_law_62 0 rfl rfl)
theorem dL_law_1599 : decode cL_law 1599 = .ok (.aload_n 3, 1) := dk_45 (dk_at dksL_law_62 1 rfl rfl)
theorem dL_law_1600 : decode cL_law 1600 = .ok (.invokestatic 224, 3) := dk_184 0 224 (dk_at dksL_law_62 2 rfl rfl)
theorem dL_law_1603 : decode cL_law 1603 = .ok (.istore 6, 2) := dk_54 6 (dk_at dksL_law_62 5 rfl rfl)
theorem dL_law_1605 : decode cL_law 1605 = .ok (.aload_n 2, 1) := dk_44 (dk_at dksL_law_62 7 rfl rfl)
theorem dL_law_1606 : decode cL_law 1606 = .ok (.aload_n 0, 1) := dk_42 (dk_at dksL_law_62 8 rfl rfl)
theorem dL_law_1607 : decode cL_law 1607 = .ok (.iload 5, 2) := dk_21 5 (dk_at dksL_law_62 9 rfl rfl)
theorem dL_law_1609 : decode cL_law 1609 = .ok (.iconst 1, 1) := dk_4 (dk_at dksL_law_62 11 rfl rfl)
theorem dL_law_1610 : decode cL_law 1610 = .ok (.iadd, 1) := dk_96 (dk_at dksL_law_62 12 rfl rfl)
theorem dL_law_1611 : decode cL_law 1611 = .ok (.iaload, 1) := dk_46 (dk_at dksL_law_62 13 rfl rfl)
theorem dL_law_1612 : decode cL_law 1612 = .ok (.invokevirtual 226, 3) := dk_182 0 226 (dk_at dksL_law_62 14 rfl rfl)
theorem dL_law_1615 : decode cL_law 1615 = .ok (.istore 7, 2) := dk_54 7 (dk_at dksL_law_62 17 rfl rfl)
theorem dL_law_1617 : decode cL_law 1617 = .ok (.aload_n 2, 1) := dk_44 (dk_at dksL_law_62 19 rfl rfl)
theorem dL_law_1618 : decode cL_law 1618 = .ok (.invokevirtual 153, 3) := dk_182 0 153 (dk_at dksL_law_62 20 rfl rfl)
theorem dL_law_1621 : decode cL_law 1621 = .ok (.iload 6, 2) := dk_21 6 (dk_at dksL_law_63 0 rfl rfl)
theorem dL_law_1623 : decode cL_law 1623 = .ok (.if_icmp .eq 5, 3) := dk_159 0 5 (dk_at dksL_law_63 2 rfl rfl)
theorem dL_law_1626 : decode cL_law 1626 = .ok (.iconst 0, 1) := dk_3 (dk_at dksL_law_63 5 rfl rfl)
theorem dL_law_1627 : decode cL_law 1627 = .ok (.ireturn, 1) := dk_172 (dk_at dksL_law_63 6 rfl rfl)
theorem dL_law_1628 : decode cL_law 1628 = .ok (.iload 6, 2) := dk_21 6 (dk_at dksL_law_63 7 rfl rfl)
theorem dL_law_1630 : decode cL_law 1630 = .ok (.ifCond .ne 15, 3) := dk_154 0 15 (dk_at dksL_law_63 9 rfl rfl)
theorem dL_law_1633 : decode cL_law 1633 = .ok (.aload_n 3, 1) := dk_45 (dk_at dksL_law_63 12 rfl rfl)
theorem dL_law_1634 : decode cL_law 1634 = .ok (.iconst 0, 1) := dk_3 (dk_at dksL_law_63 13 rfl rfl)
theorem dL_law_1635 : decode cL_law 1635 = .ok (.laload, 1) := dk_47 (dk_at dksL_law_63 14 rfl rfl)
theorem dL_law_1636 : decode cL_law 1636 = .ok (.iload 7, 2) := dk_21 7 (dk_at dksL_law_63 15 rfl rfl)
theorem dL_law_1638 : decode cL_law 1638 = .ok (.i2l, 1) := dk_133 (dk_at dksL_law_63 17 rfl rfl)
theorem dL_law_1639 : decode cL_law 1639 = .ok (.lcmp, 1) := dk_148 (dk_at dksL_law_63 18 rfl rfl)
theorem dL_law_1640 : decode cL_law 1640 = .ok (.ifCond .eq 5, 3) := dk_153 0 5 (dk_at dksL_law_63 19 rfl rfl)
theorem dL_law_1643 : decode cL_law 1643 = .ok (.iconst 0, 1) := dk_3 (dk_at dksL_law_63 22 rfl rfl)
theorem dL_law_1644 : decode cL_law 1644 = .ok (.ireturn, 1) := dk_172 (dk_at dksL_law_63 23 rfl rfl)
theorem dL_law_1645 : decode cL_law 1645 = .ok (.goto 801, 3) := dk_167 3 33 (dk_at dksL_law_64 0 rfl rfl)
theorem dL_law_1648 : decode cL_law 1648 = .ok (.aload_n 1, 1) := dk_43 (dk_at dksL_law_64 3 rfl rfl)
theorem dL_law_1649 : decode cL_law 1649 = .ok (.aload_n 0, 1) := dk_42 (dk_at dksL_law_64 4 rfl rfl)
theorem dL_law_1650 : decode cL_law 1650 = .ok (.iload 5, 2) := dk_21 5 (dk_at dksL_law_64 5 rfl rfl)
theorem dL_law_1652 : decode cL_law 1652 = .ok (.iconst 1, 1) := dk_4 (dk_at dksL_law_64 7 rfl rfl)
theorem dL_law_1653 : decode cL_law 1653 = .ok (.iadd, 1) := dk_96 (dk_at dksL_law_64 8 rfl rfl)
theorem dL_law_1654 : decode cL_law 1654 = .ok (.iaload, 1) := dk_46 (dk_at dksL_law_64 9 rfl rfl)
theorem dL_law_1655 : decode cL_law 1655 = .ok (.aload_n 0, 1) := dk_42 (dk_at dksL_law_64 10 rfl rfl)
theorem dL_law_1656 : decode cL_law 1656 = .ok (.iload 5, 2) := dk_21 5 (dk_at dksL_law_64 11 rfl rfl)
theorem dL_law_1658 : decode cL_law 1658 = .ok (.iconst 2, 1) := dk_5 (dk_at dksL_law_64 13 rfl rfl)
theorem dL_law_1659 : decode cL_law 1659 = .ok (.iadd, 1) := dk_96 (dk_at dksL_law_64 14 rfl rfl)
theorem dL_law_1660 : decode cL_law 1660 = .ok (.iaload, 1) := dk_46 (dk_at dksL_law_64 15 rfl rfl)
theorem dL_law_1661 : decode cL_law 1661 = .ok (.aload_n 3, 1) := dk_45 (dk_at dksL_law_64 16 rfl rfl)
theorem dL_law_1662 : decode cL_law 1662 = .ok (.invokestatic 227, 3) := dk_184 0 227 (dk_at dksL_law_64 17 rfl rfl)
theorem dL_law_1665 : decode cL_law 1665 = .ok (.istore 6, 2) := dk_54 6 (dk_at dksL_law_64 20 rfl rfl)
theorem dL_law_1667 : decode cL_law 1667 = .ok (.aload_n 2, 1) := dk_44 (dk_at dksL_law_64 22 rfl rfl)
theorem dL_law_1668 : decode cL_law 1668 = .ok (.aload_n 0, 1) := dk_42 (dk_at dksL_law_64 23 rfl rfl)
theorem dL_law_1669 : decode cL_law 1669 = .ok (.iload 5, 2) := dk_21 5 (dk_at dksL_law_65 0 rfl rfl)
theorem dL_law_1671 : decode cL_law 1671 = .ok (.iconst 1, 1) := dk_4 (dk_at dksL_law_65 2 rfl rfl)
theorem dL_law_1672 : decode cL_law 1672 = .ok (.iadd, 1) := dk_96 (dk_at dksL_law_65 3 rfl rfl)
theorem dL_law_1673 : decode cL_law 1673 = .ok (.iaload, 1) := dk_46 (dk_at dksL_law_65 4 rfl rfl)
theorem dL_law_1674 : decode cL_law 1674 = .ok (.aload_n 0, 1) := dk_42 (dk_at dksL_law_65 5 rfl rfl)
theorem dL_law_1675 : decode cL_law 1675 = .ok (.iload 5, 2) := dk_21 5 (dk_at dksL_law_65 6 rfl rfl)
theorem dL_law_1677 : decode cL_law 1677 = .ok (.iconst 2, 1) := dk_5 (dk_at dksL_law_65 8 rfl rfl)
theorem dL_law_1678 : decode cL_law 1678 = .ok (.iadd, 1) := dk_96 (dk_at dksL_law_65 9 rfl rfl)
theorem dL_law_1679 : decode cL_law 1679 = .ok (.iaload, 1) := dk_46 (dk_at dksL_law_65 10 rfl rfl)
theorem dL_law_1680 : decode cL_law 1680 = .ok (.invokevirtual 229, 3) := dk_182 0 229 (dk_at dksL_law_65 11 rfl rfl)
theorem dL_law_1683 : decode cL_law 1683 = .ok (.istore 7, 2) := dk_54 7 (dk_at dksL_law_65 14 rfl rfl)
theorem dL_law_1685 : decode cL_law 1685 = .ok (.aload_n 2, 1) := dk_44 (dk_at dksL_law_65 16 rfl rfl)
theorem dL_law_1686 : decode cL_law 1686 = .ok (.invokevirtual 153, 3) := dk_182 0 153 (dk_at dksL_law_65 17 rfl rfl)
theorem dL_law_1689 : decode cL_law 1689 = .ok (.iload 6, 2) := dk_21 6 (dk_at dksL_law_65 20 rfl rfl)
theorem dL_law_1691 : decode cL_law 1691 = .ok (.if_icmp .eq 5, 3) := dk_159 0 5 (dk_at dksL_law_66 0 rfl rfl)
theorem dL_law_1694 : decode cL_law 1694 = .ok (.iconst 0, 1) := dk_3 (dk_at dksL_law_66 3 rfl rfl)
theorem dL_law_1695 : decode cL_law 1695 = .ok (.ireturn, 1) := dk_172 (dk_at dksL_law_66 4 rfl rfl)
theorem dL_law_1696 : decode cL_law 1696 = .ok (.iload 6, 2) := dk_21 6 (dk_at dksL_law_66 5 rfl rfl)
theorem dL_law_1698 : decode cL_law 1698 = .ok (.ifCond .ne 15, 3) := dk_154 0 15 (dk_at dksL_law_66 7 rfl rfl)
theorem dL_law_1701 : decode cL_law 1701 = .ok (.aload_n 3, 1) := dk_45 (dk_at dksL_law_66 10 rfl rfl)
theorem dL_law_1702 : decode cL_law 1702 = .ok (.iconst 0, 1) := dk_3 (dk_at dksL_law_66 11 rfl rfl)
theorem dL_law_1703 : decode cL_law 1703 = .ok (.laload, 1) := dk_47 (dk_at dksL_law_66 12 rfl rfl)
theorem dL_law_1704 : decode cL_law 1704 = .ok (.iload 7, 2) := dk_21 7 (dk_at dksL_law_66 13 rfl rfl)
theorem dL_law_1706 : decode cL_law 1706 = .ok (.i2l, 1) := dk_133 (dk_at dksL_law_66 15 rfl rfl)
theorem dL_law_1707 : decode cL_law 1707 = .ok (.lcmp, 1) := dk_148 (dk_at dksL_law_66 16 rfl rfl)
theorem dL_law_1708 : decode cL_law 1708 = .ok (.ifCond .eq 5, 3) := dk_153 0 5 (dk_at dksL_law_66 17 rfl rfl)
theorem dL_law_1711 : decode cL_law 1711 = .ok (.iconst 0, 1) := dk_3 (dk_at dksL_law_66 20 rfl rfl)
theorem dL_law_1712 : decode cL_law 1712 = .ok (.ireturn, 1) := dk_172 (dk_at dksL_law_66 21 rfl rfl)
theorem dL_law_1713 : decode cL_law 1713 = .ok (.goto 733, 3) := dk_167 2 221 (dk_at dksL_law_67 0 rfl rfl)
theorem dL_law_1716 : decode cL_law 1716 = .ok (.aload_n 1, 1) := dk_43 (dk_at dksL_law_67 3 rfl rfl)
theorem dL_law_1717 : decode cL_law 1717 = .ok (.aload_n 3, 1) := dk_45 (dk_at dksL_law_67 4 rfl rfl)
theorem dL_law_1718 : decode cL_law 1718 = .ok (.invokestatic 230, 3) := dk_184 0 230 (dk_at dksL_law_67 5 rfl rfl)
theorem dL_law_1721 : decode cL_law 1721 = .ok (.istore 6, 2) := dk_54 6 (dk_at dksL_law_67 8 rfl rfl)
theorem dL_law_1723 : decode cL_law 1723 = .ok (.aload_n 2, 1) := dk_44 (dk_at dksL_law_67 10 rfl rfl)
theorem dL_law_1724 : decode cL_law 1724 = .ok (.invokevirtual 232, 3) := dk_182 0 232 (dk_at dksL_law_67 11 rfl rfl)
theorem dL_law_1727 : decode cL_law 1727 = .ok (.istore 7, 2) := dk_54 7 (dk_at dksL_law_67 14 rfl rfl)
theorem dL_law_1729 : decode cL_law 1729 = .ok (.aload_n 2, 1) := dk_44 (dk_at dksL_law_67 16 rfl rfl)
theorem dL_law_1730 : decode cL_law 1730 = .ok (.invokevirtual 153, 3) := dk_182 0 153 (dk_at dksL_law_67 17 rfl rfl)
theorem dL_law_1733 : decode cL_law 1733 = .ok (.iload 6, 2) := dk_21 6 (dk_at dksL_law_67 20 rfl rfl)
theorem dL_law_1735 : decode cL_law 1735 = .ok (.if_icmp .eq 5, 3) := dk_159 0 5 (dk_at dksL_law_68 0 rfl rfl)
theorem dL_law_1738 : decode cL_law 1738 = .ok (.iconst 0, 1) := dk_3 (dk_at dksL_law_68 3 rfl rfl)
theorem dL_law_1739 : decode cL_law 1739 = .ok (.ireturn, 1) := dk_172 (dk_at dksL_law_68 4 rfl rfl)
theorem dL_law_1740 : decode cL_law 1740 = .ok (.iload 6, 2) := dk_21 6 (dk_at dksL_law_68 5 rfl rfl)
theorem dL_law_1742 : decode cL_law 1742 = .ok (.ifCond .ne 15, 3) := dk_154 0 15 (dk_at dksL_law_68 7 rfl rfl)
theorem dL_law_1745 : decode cL_law 1745 = .ok (.aload_n 3, 1) := dk_45 (dk_at dksL_law_68 10 rfl rfl)
theorem dL_law_1746 : decode cL_law 1746 = .ok (.iconst 0, 1) := dk_3 (dk_at dksL_law_68 11 rfl rfl)
theorem dL_law_1747 : decode cL_law 1747 = .ok (.laload, 1) := dk_47 (dk_at dksL_law_68 12 rfl rfl)
theorem dL_law_1748 : decode cL_law 1748 = .ok (.iload 7, 2) := dk_21 7 (dk_at dksL_law_68 13 rfl rfl)
theorem dL_law_1750 : decode cL_law 1750 = .ok (.i2l, 1) := dk_133 (dk_at dksL_law_68 15 rfl rfl)
theorem dL_law_1751 : decode cL_law 1751 = .ok (.lcmp, 1) := dk_148 (dk_at dksL_law_68 16 rfl rfl)
theorem dL_law_1752 : decode cL_law 1752 = .ok (.ifCond .eq 5, 3) := dk_153 0 5 (dk_at dksL_law_68 17 rfl rfl)
theorem dL_law_1755 : decode cL_law 1755 = .ok (.iconst 0, 1) := dk_3 (dk_at dksL_law_68 20 rfl rfl)
theorem dL_law_1756 : decode cL_law 1756 = .ok (.ireturn, 1) := dk_172 (dk_at dksL_law_68 21 rfl rfl)
theorem dL_law_1757 : decode cL_law 1757 = .ok (.goto 689, 3) := dk_167 2 177 (dk_at dksL_law_69 0 rfl rfl)
theorem dL_law_1760 : decode cL_law 1760 = .ok (.aload_n 1, 1) := dk_43 (dk_at dksL_law_69 3 rfl rfl)
theorem dL_law_1761 : decode cL_law 1761 = .ok (.aload_n 0, 1) := dk_42 (dk_at dksL_law_69 4 rfl rfl)
theorem dL_law_1762 : decode cL_law 1762 = .ok (.iload 5, 2) := dk_21 5 (dk_at dksL_law_69 5 rfl rfl)
theorem dL_law_1764 : decode cL_law 1764 = .ok (.iconst 1, 1) := dk_4 (dk_at dksL_law_69 7 rfl rfl)
theorem dL_law_1765 : decode cL_law 1765 = .ok (.iadd, 1) := dk_96 (dk_at dksL_law_69 8 rfl rfl)
theorem dL_law_1766 : decode cL_law 1766 = .ok (.iaload, 1) := dk_46 (dk_at dksL_law_69 9 rfl rfl)
theorem dL_law_1767 : decode cL_law 1767 = .ok (.aload_n 3, 1) := dk_45 (dk_at dksL_law_69 10 rfl rfl)
theorem dL_law_1768 : decode cL_law 1768 = .ok (.invokestatic 233, 3) := dk_184 0 233 (dk_at dksL_law_69 11 rfl rfl)
theorem dL_law_1771 : decode cL_law 1771 = .ok (.istore 6, 2) := dk_54 6 (dk_at dksL_law_69 14 rfl rfl)
theorem dL_law_1773 : decode cL_law 1773 = .ok (.aload_n 2, 1) := dk_44 (dk_at dksL_law_69 16 rfl rfl)
theorem dL_law_1774 : decode cL_law 1774 = .ok (.aload_n 0, 1) := dk_42 (dk_at dksL_law_69 17 rfl rfl)
theorem dL_law_1775 : decode cL_law 1775 = .ok (.iload 5, 2) := dk_21 5 (dk_at dksL_law_69 18 rfl rfl)
theorem dL_law_1777 : decode cL_law 1777 = .ok (.iconst 1, 1) := dk_4 (dk_at dksL_law_69 20 rfl rfl)
theorem dL_law_1778 : decode cL_law 1778 = .ok (.iadd, 1) := dk_96 (dk_at dksL_law_69 21 rfl rfl)
theorem dL_law_1779 : decode cL_law 1779 = .ok (.iaload, 1) := dk_46 (dk_at dksL_law_69 22 rfl rfl)
theorem dL_law_1780 : decode cL_law 1780 = .ok (.invokevirtual 235, 3) := dk_182 0 235 (dk_at dksL_law_70 0 rfl rfl)
theorem dL_law_1783 : decode cL_law 1783 = .ok (.istore 7, 2) := dk_54 7 (dk_at dksL_law_70 3 rfl rfl)
theorem dL_law_1785 : decode cL_law 1785 = .ok (.aload_n 2, 1) := dk_44 (dk_at dksL_law_70 5 rfl rfl)
theorem dL_law_1786 : decode cL_law 1786 = .ok (.invokevirtual 153, 3) := dk_182 0 153 (dk_at dksL_law_70 6 rfl rfl)
theorem dL_law_1789 : decode cL_law 1789 = .ok (.iload 6, 2) := dk_21 6 (dk_at dksL_law_70 9 rfl rfl)
theorem dL_law_1791 : decode cL_law 1791 = .ok (.if_icmp .eq 5, 3) := dk_159 0 5 (dk_at dksL_law_70 11 rfl rfl)
theorem dL_law_1794 : decode cL_law 1794 = .ok (.iconst 0, 1) := dk_3 (dk_at dksL_law_70 14 rfl rfl)
theorem dL_law_1795 : decode cL_law 1795 = .ok (.ireturn, 1) := dk_172 (dk_at dksL_law_70 15 rfl rfl)
theorem dL_law_1796 : decode cL_law 1796 = .ok (.iload 6, 2) := dk_21 6 (dk_at dksL_law_70 16 rfl rfl)
theorem dL_law_1798 : decode cL_law 1798 = .ok (.ifCond .ne 15, 3) := dk_154 0 15 (dk_at dksL_law_70 18 rfl rfl)
theorem dL_law_1801 : decode cL_law 1801 = .ok (.aload_n 3, 1) := dk_45 (dk_at dksL_law_70 21 rfl rfl)
theorem dL_law_1802 : decode cL_law 1802 = .ok (.iconst 0, 1) := dk_3 (dk_at dksL_law_70 22 rfl rfl)
theorem dL_law_1803 : decode cL_law 1803 = .ok (.laload, 1) := dk_47 (dk_at dksL_law_70 23 rfl rfl)
theorem dL_law_1804 : decode cL_law 1804 = .ok (.iload 7, 2) := dk_21 7 (dk_at dksL_law_71 0 rfl rfl)
theorem dL_law_1806 : decode cL_law 1806 = .ok (.i2l, 1) := dk_133 (dk_at dksL_law_71 2 rfl rfl)
theorem dL_law_1807 : decode cL_law 1807 = .ok (.lcmp, 1) := dk_148 (dk_at dksL_law_71 3 rfl rfl)
theorem dL_law_1808 : decode cL_law 1808 = .ok (.ifCond .eq 5, 3) := dk_153 0 5 (dk_at dksL_law_71 4 rfl rfl)
theorem dL_law_1811 : decode cL_law 1811 = .ok (.iconst 0, 1) := dk_3 (dk_at dksL_law_71 7 rfl rfl)
theorem dL_law_1812 : decode cL_law 1812 = .ok (.ireturn, 1) := dk_172 (dk_at dksL_law_71 8 rfl rfl)
theorem dL_law_1813 : decode cL_law 1813 = .ok (.goto 633, 3) := dk_167 2 121 (dk_at dksL_law_71 9 rfl rfl)
theorem dL_law_1816 : decode cL_law 1816 = .ok (.aload_n 1, 1) := dk_43 (dk_at dksL_law_71 12 rfl rfl)
theorem dL_law_1817 : decode cL_law 1817 = .ok (.aload_n 0, 1) := dk_42 (dk_at dksL_law_71 13 rfl rfl)
theorem dL_law_1818 : decode cL_law 1818 = .ok (.iload 5, 2) := dk_21 5 (dk_at dksL_law_71 14 rfl rfl)
theorem dL_law_1820 : decode cL_law 1820 = .ok (.iconst 1, 1) := dk_4 (dk_at dksL_law_71 16 rfl rfl)
theorem dL_law_1821 : decode cL_law 1821 = .ok (.iadd, 1) := dk_96 (dk_at dksL_law_71 17 rfl rfl)
theorem dL_law_1822 : decode cL_law 1822 = .ok (.iaload, 1) := dk_46 (dk_at dksL_law_71 18 rfl rfl)
theorem dL_law_1823 : decode cL_law 1823 = .ok (.aload_n 3, 1) := dk_45 (dk_at dksL_law_71 19 rfl rfl)
theorem dL_law_1824 : decode cL_law 1824 = .ok (.invokestatic 236, 3) := dk_184 0 236 (dk_at dksL_law_71 20 rfl rfl)
theorem dL_law_1827 : decode cL_law 1827 = .ok (.istore 6, 2) := dk_54 6 (dk_at dksL_law_72 0 rfl rfl)
theorem dL_law_1829 : decode cL_law 1829 = .ok (.aload_n 2, 1) := dk_44 (dk_at dksL_law_72 2 rfl rfl)
theorem dL_law_1830 : decode cL_law 1830 = .ok (.aload_n 0, 1) := dk_42 (dk_at dksL_law_72 3 rfl rfl)
theorem dL_law_1831 : decode cL_law 1831 = .ok (.iload 5, 2) := dk_21 5 (dk_at dksL_law_72 4 rfl rfl)
theorem dL_law_1833 : decode cL_law 1833 = .ok (.iconst 1, 1) := dk_4 (dk_at dksL_law_72 6 rfl rfl)
theorem dL_law_1834 : decode cL_law 1834 = .ok (.iadd, 1) := dk_96 (dk_at dksL_law_72 7 rfl rfl)
theorem dL_law_1835 : decode cL_law 1835 = .ok (.iaload, 1) := dk_46 (dk_at dksL_law_72 8 rfl rfl)
theorem dL_law_1836 : decode cL_law 1836 = .ok (.invokevirtual 238, 3) := dk_182 0 238 (dk_at dksL_law_72 9 rfl rfl)
theorem dL_law_1839 : decode cL_law 1839 = .ok (.istore 7, 2) := dk_54 7 (dk_at dksL_law_72 12 rfl rfl)
theorem dL_law_1841 : decode cL_law 1841 = .ok (.aload_n 2, 1) := dk_44 (dk_at dksL_law_72 14 rfl rfl)
theorem dL_law_1842 : decode cL_law 1842 = .ok (.invokevirtual 153, 3) := dk_182 0 153 (dk_at dksL_law_72 15 rfl rfl)
theorem dL_law_1845 : decode cL_law 1845 = .ok (.iload 6, 2) := dk_21 6 (dk_at dksL_law_72 18 rfl rfl)
theorem dL_law_1847 : decode cL_law 1847 = .ok (.if_icmp .eq 5, 3) := dk_159 0 5 (dk_at dksL_law_72 20 rfl rfl)
theorem dL_law_1850 : decode cL_law 1850 = .ok (.iconst 0, 1) := dk_3 (dk_at dksL_law_72 23 rfl rfl)
theorem dL_law_1851 : decode cL_law 1851 = .ok (.ireturn, 1) := dk_172 (dk_at dksL_law_73 0 rfl rfl)
theorem dL_law_1852 : decode cL_law 1852 = .ok (.iload 6, 2) := dk_21 6 (dk_at dksL_law_73 1 rfl rfl)
theorem dL_law_1854 : decode cL_law 1854 = .ok (.ifCond .ne 15, 3) := dk_154 0 15 (dk_at dksL_law_73 3 rfl rfl)
theorem dL_law_1857 : decode cL_law 1857 = .ok (.aload_n 3, 1) := dk_45 (dk_at dksL_law_73 6 rfl rfl)
theorem dL_law_1858 : decode cL_law 1858 = .ok (.iconst 0, 1) := dk_3 (dk_at dksL_law_73 7 rfl rfl)
theorem dL_law_1859 : decode cL_law 1859 = .ok (.laload, 1) := dk_47 (dk_at dksL_law_73 8 rfl rfl)
theorem dL_law_1860 : decode cL_law 1860 = .ok (.iload 7, 2) := dk_21 7 (dk_at dksL_law_73 9 rfl rfl)
theorem dL_law_1862 : decode cL_law 1862 = .ok (.i2l, 1) := dk_133 (dk_at dksL_law_73 11 rfl rfl)
theorem dL_law_1863 : decode cL_law 1863 = .ok (.lcmp, 1) := dk_148 (dk_at dksL_law_73 12 rfl rfl)
theorem dL_law_1864 : decode cL_law 1864 = .ok (.ifCond .eq 5, 3) := dk_153 0 5 (dk_at dksL_law_73 13 rfl rfl)
theorem dL_law_1867 : decode cL_law 1867 = .ok (.iconst 0, 1) := dk_3 (dk_at dksL_law_73 16 rfl rfl)
theorem dL_law_1868 : decode cL_law 1868 = .ok (.ireturn, 1) := dk_172 (dk_at dksL_law_73 17 rfl rfl)
theorem dL_law_1869 : decode cL_law 1869 = .ok (.goto 577, 3) := dk_167 2 65 (dk_at dksL_law_73 18 rfl rfl)
theorem dL_law_1872 : decode cL_law 1872 = .ok (.aload_n 1, 1) := dk_43 (dk_at dksL_law_73 21 rfl rfl)
theorem dL_law_1873 : decode cL_law 1873 = .ok (.aload_n 0, 1) := dk_42 (dk_at dksL_law_73 22 rfl rfl)
theorem dL_law_1874 : decode cL_law 1874 = .ok (.iload 5, 2) := dk_21 5 (dk_at dksL_law_74 0 rfl rfl)
theorem dL_law_1876 : decode cL_law 1876 = .ok (.iconst 1, 1) := dk_4 (dk_at dksL_law_74 2 rfl rfl)
theorem dL_law_1877 : decode cL_law 1877 = .ok (.iadd, 1) := dk_96 (dk_at dksL_law_74 3 rfl rfl)
theorem dL_law_1878 : decode cL_law 1878 = .ok (.iaload, 1) := dk_46 (dk_at dksL_law_74 4 rfl rfl)
theorem dL_law_1879 : decode cL_law 1879 = .ok (.aload_n 3, 1) := dk_45 (dk_at dksL_law_74 5 rfl rfl)
theorem dL_law_1880 : decode cL_law 1880 = .ok (.invokestatic 239, 3) := dk_184 0 239 (dk_at dksL_law_74 6 rfl rfl)
theorem dL_law_1883 : decode cL_law 1883 = .ok (.istore 6, 2) := dk_54 6 (dk_at dksL_law_74 9 rfl rfl)
theorem dL_law_1885 : decode cL_law 1885 = .ok (.aload_n 2, 1) := dk_44 (dk_at dksL_law_74 11 rfl rfl)
theorem dL_law_1886 : decode cL_law 1886 = .ok (.aload_n 0, 1) := dk_42 (dk_at dksL_law_74 12 rfl rfl)
theorem dL_law_1887 : decode cL_law 1887 = .ok (.iload 5, 2) := dk_21 5 (dk_at dksL_law_74 13 rfl rfl)
theorem dL_law_1889 : decode cL_law 1889 = .ok (.iconst 1, 1) := dk_4 (dk_at dksL_law_74 15 rfl rfl)
theorem dL_law_1890 : decode cL_law 1890 = .ok (.iadd, 1) := dk_96 (dk_at dksL_law_74 16 rfl rfl)
theorem dL_law_1891 : decode cL_law 1891 = .ok (.iaload, 1) := dk_46 (dk_at dksL_law_74 17 rfl rfl)
theorem dL_law_1892 : decode cL_law 1892 = .ok (.invokevirtual 241, 3) := dk_182 0 241 (dk_at dksL_law_74 18 rfl rfl)
theorem dL_law_1895 : decode cL_law 1895 = .ok (.istore 7, 2) := dk_54 7 (dk_at dksL_law_74 21 rfl rfl)
theorem dL_law_1897 : decode cL_law 1897 = .ok (.aload_n 2, 1) := dk_44 (dk_at dksL_law_74 23 rfl rfl)
theorem dL_law_1898 : decode cL_law 1898 = .ok (.invokevirtual 153, 3) := dk_182 0 153 (dk_at dksL_law_75 0 rfl rfl)
theorem dL_law_1901 : decode cL_law 1901 = .ok (.iload 6, 2) := dk_21 6 (dk_at dksL_law_75 3 rfl rfl)
theorem dL_law_1903 : decode cL_law 1903 = .ok (.if_icmp .eq 5, 3) := dk_159 0 5 (dk_at dksL_law_75 5 rfl rfl)
theorem dL_law_1906 : decode cL_law 1906 = .ok (.iconst 0, 1) := dk_3 (dk_at dksL_law_75 8 rfl rfl)
theorem dL_law_1907 : decode cL_law 1907 = .ok (.ireturn, 1) := dk_172 (dk_at dksL_law_75 9 rfl rfl)
theorem dL_law_1908 : decode cL_law 1908 = .ok (.iload 6, 2) := dk_21 6 (dk_at dksL_law_75 10 rfl rfl)
theorem dL_law_1910 : decode cL_law 1910 = .ok (.ifCond .ne 15, 3) := dk_154 0 15 (dk_at dksL_law_75 12 rfl rfl)
theorem dL_law_1913 : decode cL_law 1913 = .ok (.aload_n 3, 1) := dk_45 (dk_at dksL_law_75 15 rfl rfl)
theorem dL_law_1914 : decode cL_law 1914 = .ok (.iconst 0, 1) := dk_3 (dk_at dksL_law_75 16 rfl rfl)
theorem dL_law_1915 : decode cL_law 1915 = .ok (.laload, 1) := dk_47 (dk_at dksL_law_75 17 rfl rfl)
theorem dL_law_1916 : decode cL_law 1916 = .ok (.iload 7, 2) := dk_21 7 (dk_at dksL_law_75 18 rfl rfl)
theorem dL_law_1918 : decode cL_law 1918 = .ok (.i2l, 1) := dk_133 (dk_at dksL_law_75 20 rfl rfl)
theorem dL_law_1919 : decode cL_law 1919 = .ok (.lcmp, 1) := dk_148 (dk_at dksL_law_75 21 rfl rfl)
theorem dL_law_1920 : decode cL_law 1920 = .ok (.ifCond .eq 5, 3) := dk_153 0 5 (dk_at dksL_law_76 0 rfl rfl)
theorem dL_law_1923 : decode cL_law 1923 = .ok (.iconst 0, 1) := dk_3 (dk_at dksL_law_76 3 rfl rfl)
theorem dL_law_1924 : decode cL_law 1924 = .ok (.ireturn, 1) := dk_172 (dk_at dksL_law_76 4 rfl rfl)
theorem dL_law_1925 : decode cL_law 1925 = .ok (.goto 521, 3) := dk_167 2 9 (dk_at dksL_law_76 5 rfl rfl)
theorem dL_law_1928 : decode cL_law 1928 = .ok (.aload_n 1, 1) := dk_43 (dk_at dksL_law_76 8 rfl rfl)
theorem dL_law_1929 : decode cL_law 1929 = .ok (.aload 4, 2) := dk_25 4 (dk_at dksL_law_76 9 rfl rfl)
theorem dL_law_1931 : decode cL_law 1931 = .ok (.invokestatic 242, 3) := dk_184 0 242 (dk_at dksL_law_76 11 rfl rfl)
theorem dL_law_1934 : decode cL_law 1934 = .ok (.istore 6, 2) := dk_54 6 (dk_at dksL_law_76 14 rfl rfl)
theorem dL_law_1936 : decode cL_law 1936 = .ok (.aload_n 2, 1) := dk_44 (dk_at dksL_law_76 16 rfl rfl)
theorem dL_law_1937 : decode cL_law 1937 = .ok (.invokevirtual 245, 3) := dk_182 0 245 (dk_at dksL_law_76 17 rfl rfl)
theorem dL_law_1940 : decode cL_law 1940 = .ok (.fstore 7, 2) := dk_56 7 (dk_at dksL_law_76 20 rfl rfl)
theorem dL_law_1942 : decode cL_law 1942 = .ok (.aload_n 2, 1) := dk_44 (dk_at dksL_law_76 22 rfl rfl)
theorem dL_law_1943 : decode cL_law 1943 = .ok (.invokevirtual 153, 3) := dk_182 0 153 (dk_at dksL_law_77 0 rfl rfl)
theorem dL_law_1946 : decode cL_law 1946 = .ok (.iload 6, 2) := dk_21 6 (dk_at dksL_law_77 3 rfl rfl)
theorem dL_law_1948 : decode cL_law 1948 = .ok (.if_icmp .eq 5, 3) := dk_159 0 5 (dk_at dksL_law_77 5 rfl rfl)
theorem dL_law_1951 : decode cL_law 1951 = .ok (.iconst 0, 1) := dk_3 (dk_at dksL_law_77 8 rfl rfl)
theorem dL_law_1952 : decode cL_law 1952 = .ok (.ireturn, 1) := dk_172 (dk_at dksL_law_77 9 rfl rfl)
theorem dL_law_1953 : decode cL_law 1953 = .ok (.iload 6, 2) := dk_21 6 (dk_at dksL_law_77 10 rfl rfl)
theorem dL_law_1955 : decode cL_law 1955 = .ok (.ifCond .ne 36, 3) := dk_154 0 36 (dk_at dksL_law_77 12 rfl rfl)
theorem dL_law_1958 : decode cL_law 1958 = .ok (.aload 4, 2) := dk_25 4 (dk_at dksL_law_77 15 rfl rfl)
theorem dL_law_1960 : decode cL_law 1960 = .ok (.iconst 0, 1) := dk_3 (dk_at dksL_law_77 17 rfl rfl)
theorem dL_law_1961 : decode cL_law 1961 = .ok (.daload, 1) := dk_49 (dk_at dksL_law_77 18 rfl rfl)
theorem dL_law_1962 : decode cL_law 1962 = .ok (.fload 7, 2) := dk_23 7 (dk_at dksL_law_77 19 rfl rfl)
theorem dL_law_1964 : decode cL_law 1964 = .ok (.f2d, 1) := dk_141 (dk_at dksL_law_77 21 rfl rfl)
theorem dL_law_1965 : decode cL_law 1965 = .ok (.dcmp .l, 1) := dk_151 (dk_at dksL_law_77 22 rfl rfl)
theorem dL_law_1966 : decode cL_law 1966 = .ok (.ifCond .eq 25, 3) := dk_153 0 25 (dk_at dksL_law_78 0 rfl rfl)
theorem dL_law_1969 : decode cL_law 1969 = .ok (.aload 4, 2) := dk_25 4 (dk_at dksL_law_78 3 rfl rfl)
theorem dL_law_1971 : decode cL_law 1971 = .ok (.iconst 0, 1) := dk_3 (dk_at dksL_law_78 5 rfl rfl)
theorem dL_law_1972 : decode cL_law 1972 = .ok (.daload, 1) := dk_49 (dk_at dksL_law_78 6 rfl rfl)
theorem dL_law_1973 : decode cL_law 1973 = .ok (.aload 4, 2) := dk_25 4 (dk_at dksL_law_78 7 rfl rfl)
theorem dL_law_1975 : decode cL_law 1975 = .ok (.iconst 0, 1) := dk_3 (dk_at dksL_law_78 9 rfl rfl)
theorem dL_law_1976 : decode cL_law 1976 = .ok (.daload, 1) := dk_49 (dk_at dksL_law_78 10 rfl rfl)
theorem dL_law_1977 : decode cL_law 1977 = .ok (.dcmp .l, 1) := dk_151 (dk_at dksL_law_78 11 rfl rfl)
theorem dL_law_1978 : decode cL_law 1978 = .ok (.ifCond .eq 11, 3) := dk_153 0 11 (dk_at dksL_law_78 12 rfl rfl)
theorem dL_law_1981 : decode cL_law 1981 = .ok (.fload 7, 2) := dk_23 7 (dk_at dksL_law_78 15 rfl rfl)
theorem dL_law_1983 : decode cL_law 1983 = .ok (.fload 7, 2) := dk_23 7 (dk_at dksL_law_78 17 rfl rfl)
theorem dL_law_1985 : decode cL_law 1985 = .ok (.fcmp .l, 1) := dk_149 (dk_at dksL_law_78 19 rfl rfl)
theorem dL_law_1986 : decode cL_law 1986 = .ok (.ifCond .ne 5, 3) := dk_154 0 5 (dk_at dksL_law_78 20 rfl rfl)
theorem dL_law_1989 : decode cL_law 1989 = .ok (.iconst 0, 1) := dk_3 (dk_at dksL_law_78 23 rfl rfl)
theorem dL_law_1990 : decode cL_law 1990 = .ok (.ireturn, 1) := dk_172 (dk_at dksL_law_79 0 rfl rfl)
theorem dL_law_1991 : decode cL_law 1991 = .ok (.goto 455, 3) := dk_167 1 199 (dk_at dksL_law_79 1 rfl rfl)
theorem dL_law_1994 : decode cL_law 1994 = .ok (.aload_n 1, 1) := dk_43 (dk_at dksL_law_79 4 rfl rfl)
theorem dL_law_1995 : decode cL_law 1995 = .ok (.aload 4, 2) := dk_25 4 (dk_at dksL_law_79 5 rfl rfl)
theorem dL_law_1997 : decode cL_law 1997 = .ok (.invokestatic 246, 3) := dk_184 0 246 (dk_at dksL_law_79 7 rfl rfl)
theorem dL_law_2000 : decode cL_law 2000 = .ok (.istore 6, 2) := dk_54 6 (dk_at dksL_law_79 10 rfl rfl)
theorem dL_law_2002 : decode cL_law 2002 = .ok (.aload_n 2, 1) := dk_44 (dk_at dksL_law_79 12 rfl rfl)
theorem dL_law_2003 : decode cL_law 2003 = .ok (.invokevirtual 248, 3) := dk_182 0 248 (dk_at dksL_law_79 13 rfl rfl)
theorem dL_law_2006 : decode cL_law 2006 = .ok (.dstore 7, 2) := dk_57 7 (dk_at dksL_law_79 16 rfl rfl)
theorem dL_law_2008 : decode cL_law 2008 = .ok (.aload_n 2, 1) := dk_44 (dk_at dksL_law_79 18 rfl rfl)
theorem dL_law_2009 : decode cL_law 2009 = .ok (.invokevirtual 153, 3) := dk_182 0 153 (dk_at dksL_law_79 19 rfl rfl)
theorem dL_law_2012 : decode cL_law 2012 = .ok (.iload 6, 2) := dk_21 6 (dk_at dksL_law_79 22 rfl rfl)
theorem dL_law_2014 : decode cL_law 2014 = .ok (.if_icmp .eq 5, 3) := dk_159 0 5 (dk_at dksL_law_80 0 rfl rfl)
theorem dL_law_2017 : decode cL_law 2017 = .ok (.iconst 0, 1) := dk_3 (dk_at dksL_law_80 3 rfl rfl)
theorem dL_law_2018 : decode cL_law 2018 = .ok (.ireturn, 1) := dk_172 (dk_at dksL_law_80 4 rfl rfl)
theorem dL_law_2019 : decode cL_law 2019 = .ok (.iload 6, 2) := dk_21 6 (dk_at dksL_law_80 5 rfl rfl)
theorem dL_law_2021 : decode cL_law 2021 = .ok (.ifCond .ne 35, 3) := dk_154 0 35 (dk_at dksL_law_80 7 rfl rfl)
theorem dL_law_2024 : decode cL_law 2024 = .ok (.aload 4, 2) := dk_25 4 (dk_at dksL_law_80 10 rfl rfl)
theorem dL_law_2026 : decode cL_law 2026 = .ok (.iconst 0, 1) := dk_3 (dk_at dksL_law_80 12 rfl rfl)
theorem dL_law_2027 : decode cL_law 2027 = .ok (.daload, 1) := dk_49 (dk_at dksL_law_80 13 rfl rfl)
theorem dL_law_2028 : decode cL_law 2028 = .ok (.dload 7, 2) := dk_24 7 (dk_at dksL_law_80 14 rfl rfl)
theorem dL_law_2030 : decode cL_law 2030 = .ok (.dcmp .l, 1) := dk_151 (dk_at dksL_law_80 16 rfl rfl)
theorem dL_law_2031 : decode cL_law 2031 = .ok (.ifCond .eq 25, 3) := dk_153 0 25 (dk_at dksL_law_80 17 rfl rfl)
theorem dL_law_2034 : decode cL_law 2034 = .ok (.aload 4, 2) := dk_25 4 (dk_at dksL_law_80 20 rfl rfl)
theorem dL_law_2036 : decode cL_law 2036 = .ok (.iconst 0, 1) := dk_3 (dk_at dksL_law_80 22 rfl rfl)
theorem dL_law_2037 : decode cL_law 2037 = .ok (.daload, 1) := dk_49 (dk_at dksL_law_80 23 rfl rfl)
theorem dL_law_2038 : decode cL_law 2038 = .ok (.aload 4, 2) := dk_25 4 (dk_at dksL_law_81 0 rfl rfl)
theorem dL_law_2040 : decode cL_law 2040 = .ok (.iconst 0, 1) := dk_3 (dk_at dksL_law_81 2 rfl rfl)
theorem dL_law_2041 : decode cL_law 2041 = .ok (.daload, 1) := dk_49 (dk_at dksL_law_81 3 rfl rfl)
theorem dL_law_2042 : decode cL_law 2042 = .ok (.dcmp .l, 1) := dk_151 (dk_at dksL_law_81 4 rfl rfl)
theorem dL_law_2043 : decode cL_law 2043 = .ok (.ifCond .eq 11, 3) := dk_153 0 11 (dk_at dksL_law_81 5 rfl rfl)
theorem dL_law_2046 : decode cL_law 2046 = .ok (.dload 7, 2) := dk_24 7 (dk_at dksL_law_81 8 rfl rfl)
theorem dL_law_2048 : decode cL_law 2048 = .ok (.dload 7, 2) := dk_24 7 (dk_at dksL_law_81 10 rfl rfl)
theorem dL_law_2050 : decode cL_law 2050 = .ok (.dcmp .l, 1) := dk_151 (dk_at dksL_law_81 12 rfl rfl)
theorem dL_law_2051 : decode cL_law 2051 = .ok (.ifCond .ne 5, 3) := dk_154 0 5 (dk_at dksL_law_81 13 rfl rfl)
theorem dL_law_2054 : decode cL_law 2054 = .ok (.iconst 0, 1) := dk_3 (dk_at dksL_law_81 16 rfl rfl)
theorem dL_law_2055 : decode cL_law 2055 = .ok (.ireturn, 1) := dk_172 (dk_at dksL_law_81 17 rfl rfl)
theorem dL_law_2056 : decode cL_law 2056 = .ok (.goto 390, 3) := dk_167 1 134 (dk_at dksL_law_81 18 rfl rfl)
theorem dL_law_2059 : decode cL_law 2059 = .ok (.aload_n 1, 1) := dk_43 (dk_at dksL_law_81 21 rfl rfl)
theorem dL_law_2060 : decode cL_law 2060 = .ok (.aload_n 0, 1) := dk_42 (dk_at dksL_law_81 22 rfl rfl)
theorem dL_law_2061 : decode cL_law 2061 = .ok (.iload 5, 2) := dk_21 5 (dk_at dksL_law_82 0 rfl rfl)
theorem dL_law_2063 : decode cL_law 2063 = .ok (.iconst 1, 1) := dk_4 (dk_at dksL_law_82 2 rfl rfl)
theorem dL_law_2064 : decode cL_law 2064 = .ok (.iadd, 1) := dk_96 (dk_at dksL_law_82 3 rfl rfl)
theorem dL_law_2065 : decode cL_law 2065 = .ok (.iaload, 1) := dk_46 (dk_at dksL_law_82 4 rfl rfl)
theorem dL_law_2066 : decode cL_law 2066 = .ok (.aload_n 3, 1) := dk_45 (dk_at dksL_law_82 5 rfl rfl)
theorem dL_law_2067 : decode cL_law 2067 = .ok (.invokestatic 249, 3) := dk_184 0 249 (dk_at dksL_law_82 6 rfl rfl)
theorem dL_law_2070 : decode cL_law 2070 = .ok (.istore 6, 2) := dk_54 6 (dk_at dksL_law_82 9 rfl rfl)
theorem dL_law_2072 : decode cL_law 2072 = .ok (.aload_n 2, 1) := dk_44 (dk_at dksL_law_82 11 rfl rfl)
theorem dL_law_2073 : decode cL_law 2073 = .ok (.aload_n 0, 1) := dk_42 (dk_at dksL_law_82 12 rfl rfl)
theorem dL_law_2074 : decode cL_law 2074 = .ok (.iload 5, 2) := dk_21 5 (dk_at dksL_law_82 13 rfl rfl)
theorem dL_law_2076 : decode cL_law 2076 = .ok (.iconst 1, 1) := dk_4 (dk_at dksL_law_82 15 rfl rfl)
theorem dL_law_2077 : decode cL_law 2077 = .ok (.iadd, 1) := dk_96 (dk_at dksL_law_82 16 rfl rfl)
theorem dL_law_2078 : decode cL_law 2078 = .ok (.iaload, 1) := dk_46 (dk_at dksL_law_82 17 rfl rfl)
theorem dL_law_2079 : decode cL_law 2079 = .ok (.invokevirtual 251, 3) := dk_182 0 251 (dk_at dksL_law_82 18 rfl rfl)
theorem dL_law_2082 : decode cL_law 2082 = .ok (.istore 7, 2) := dk_54 7 (dk_at dksL_law_82 21 rfl rfl)
theorem dL_law_2084 : decode cL_law 2084 = .ok (.aload_n 2, 1) := dk_44 (dk_at dksL_law_82 23 rfl rfl)
theorem dL_law_2085 : decode cL_law 2085 = .ok (.invokevirtual 153, 3) := dk_182 0 153 (dk_at dksL_law_83 0 rfl rfl)
theorem dL_law_2088 : decode cL_law 2088 = .ok (.iload 6, 2) := dk_21 6 (dk_at dksL_law_83 3 rfl rfl)
theorem dL_law_2090 : decode cL_law 2090 = .ok (.if_icmp .eq 5, 3) := dk_159 0 5 (dk_at dksL_law_83 5 rfl rfl)
theorem dL_law_2093 : decode cL_law 2093 = .ok (.iconst 0, 1) := dk_3 (dk_at dksL_law_83 8 rfl rfl)
theorem dL_law_2094 : decode cL_law 2094 = .ok (.ireturn, 1) := dk_172 (dk_at dksL_law_83 9 rfl rfl)
theorem dL_law_2095 : decode cL_law 2095 = .ok (.iload 6, 2) := dk_21 6 (dk_at dksL_law_83 10 rfl rfl)
theorem dL_law_2097 : decode cL_law 2097 = .ok (.ifCond .ne 15, 3) := dk_154 0 15 (dk_at dksL_law_83 12 rfl rfl)
theorem dL_law_2100 : decode cL_law 2100 = .ok (.aload_n 3, 1) := dk_45 (dk_at dksL_law_83 15 rfl rfl)
theorem dL_law_2101 : decode cL_law 2101 = .ok (.iconst 0, 1) := dk_3 (dk_at dksL_law_83 16 rfl rfl)
theorem dL_law_2102 : decode cL_law 2102 = .ok (.laload, 1) := dk_47 (dk_at dksL_law_83 17 rfl rfl)
theorem dL_law_2103 : decode cL_law 2103 = .ok (.iload 7, 2) := dk_21 7 (dk_at dksL_law_83 18 rfl rfl)
theorem dL_law_2105 : decode cL_law 2105 = .ok (.i2l, 1) := dk_133 (dk_at dksL_law_83 20 rfl rfl)
theorem dL_law_2106 : decode cL_law 2106 = .ok (.lcmp, 1) := dk_148 (dk_at dksL_law_83 21 rfl rfl)
theorem dL_law_2107 : decode cL_law 2107 = .ok (.ifCond .eq 5, 3) := dk_153 0 5 (dk_at dksL_law_84 0 rfl rfl)
theorem dL_law_2110 : decode cL_law 2110 = .ok (.iconst 0, 1) := dk_3 (dk_at dksL_law_84 3 rfl rfl)
theorem dL_law_2111 : decode cL_law 2111 = .ok (.ireturn, 1) := dk_172 (dk_at dksL_law_84 4 rfl rfl)
theorem dL_law_2112 : decode cL_law 2112 = .ok (.goto 334, 3) := dk_167 1 78 (dk_at dksL_law_84 5 rfl rfl)
theorem dL_law_2115 : decode cL_law 2115 = .ok (.aload_n 1, 1) := dk_43 (dk_at dksL_law_84 8 rfl rfl)
theorem dL_law_2116 : decode cL_law 2116 = .ok (.aload_n 0, 1) := dk_42 (dk_at dksL_law_84 9 rfl rfl)
theorem dL_law_2117 : decode cL_law 2117 = .ok (.iload 5, 2) := dk_21 5 (dk_at dksL_law_84 10 rfl rfl)
theorem dL_law_2119 : decode cL_law 2119 = .ok (.iconst 1, 1) := dk_4 (dk_at dksL_law_84 12 rfl rfl)
theorem dL_law_2120 : decode cL_law 2120 = .ok (.iadd, 1) := dk_96 (dk_at dksL_law_84 13 rfl rfl)
theorem dL_law_2121 : decode cL_law 2121 = .ok (.iaload, 1) := dk_46 (dk_at dksL_law_84 14 rfl rfl)
theorem dL_law_2122 : decode cL_law 2122 = .ok (.i2c, 1) := dk_146 (dk_at dksL_law_84 15 rfl rfl)
theorem dL_law_2123 : decode cL_law 2123 = .ok (.aload_n 3, 1) := dk_45 (dk_at dksL_law_84 16 rfl rfl)
theorem dL_law_2124 : decode cL_law 2124 = .ok (.invokestatic 252, 3) := dk_184 0 252 (dk_at dksL_law_84 17 rfl rfl)
theorem dL_law_2127 : decode cL_law 2127 = .ok (.istore 6, 2) := dk_54 6 (dk_at dksL_law_84 20 rfl rfl)
theorem dL_law_2129 : decode cL_law 2129 = .ok (.aload_n 2, 1) := dk_44 (dk_at dksL_law_84 22 rfl rfl)
theorem dL_law_2130 : decode cL_law 2130 = .ok (.aload_n 0, 1) := dk_42 (dk_at dksL_law_84 23 rfl rfl)
theorem dL_law_2131 : decode cL_law 2131 = .ok (.iload 5, 2) := dk_21 5 (dk_at dksL_law_85 0 rfl rfl)
theorem dL_law_2133 : decode cL_law 2133 = .ok (.iconst 1, 1) := dk_4 (dk_at dksL_law_85 2 rfl rfl)
theorem dL_law_2134 : decode cL_law 2134 = .ok (.iadd, 1) := dk_96 (dk_at dksL_law_85 3 rfl rfl)
theorem dL_law_2135 : decode cL_law 2135 = .ok (.iaload, 1) := dk_46 (dk_at dksL_law_85 4 rfl rfl)
theorem dL_law_2136 : decode cL_law 2136 = .ok (.i2c, 1) := dk_146 (dk_at dksL_law_85 5 rfl rfl)
theorem dL_law_2137 : decode cL_law 2137 = .ok (.invokevirtual 255, 3) := dk_182 0 255 (dk_at dksL_law_85 6 rfl rfl)
theorem dL_law_2140 : decode cL_law 2140 = .ok (.istore 7, 2) := dk_54 7 (dk_at dksL_law_85 9 rfl rfl)
theorem dL_law_2142 : decode cL_law 2142 = .ok (.aload_n 2, 1) := dk_44 (dk_at dksL_law_85 11 rfl rfl)
theorem dL_law_2143 : decode cL_law 2143 = .ok (.invokevirtual 153, 3) := dk_182 0 153 (dk_at dksL_law_85 12 rfl rfl)
theorem dL_law_2146 : decode cL_law 2146 = .ok (.iload 6, 2) := dk_21 6 (dk_at dksL_law_85 15 rfl rfl)
theorem dL_law_2148 : decode cL_law 2148 = .ok (.if_icmp .eq 5, 3) := dk_159 0 5 (dk_at dksL_law_85 17 rfl rfl)
theorem dL_law_2151 : decode cL_law 2151 = .ok (.iconst 0, 1) := dk_3 (dk_at dksL_law_85 20 rfl rfl)
theorem dL_law_2152 : decode cL_law 2152 = .ok (.ireturn, 1) := dk_172 (dk_at dksL_law_85 21 rfl rfl)
theorem dL_law_2153 : decode cL_law 2153 = .ok (.iload 6, 2) := dk_21 6 (dk_at dksL_law_85 22 rfl rfl)
theorem dL_law_2155 : decode cL_law 2155 = .ok (.ifCond .ne 15, 3) := dk_154 0 15 (dk_at dksL_law_86 0 rfl rfl)
theorem dL_law_2158 : decode cL_law 2158 = .ok (.aload_n 3, 1) := dk_45 (dk_at dksL_law_86 3 rfl rfl)
theorem dL_law_2159 : decode cL_law 2159 = .ok (.iconst 0, 1) := dk_3 (dk_at dksL_law_86 4 rfl rfl)
theorem dL_law_2160 : decode cL_law 2160 = .ok (.laload, 1) := dk_47 (dk_at dksL_law_86 5 rfl rfl)
theorem dL_law_2161 : decode cL_law 2161 = .ok (.iload 7, 2) := dk_21 7 (dk_at dksL_law_86 6 rfl rfl)
theorem dL_law_2163 : decode cL_law 2163 = .ok (.i2l, 1) := dk_133 (dk_at dksL_law_86 8 rfl rfl)
theorem dL_law_2164 : decode cL_law 2164 = .ok (.lcmp, 1) := dk_148 (dk_at dksL_law_86 9 rfl rfl)
theorem dL_law_2165 : decode cL_law 2165 = .ok (.ifCond .eq 5, 3) := dk_153 0 5 (dk_at dksL_law_86 10 rfl rfl)
theorem dL_law_2168 : decode cL_law 2168 = .ok (.iconst 0, 1) := dk_3 (dk_at dksL_law_86 13 rfl rfl)
theorem dL_law_2169 : decode cL_law 2169 = .ok (.ireturn, 1) := dk_172 (dk_at dksL_law_86 14 rfl rfl)
theorem dL_law_2170 : decode cL_law 2170 = .ok (.goto 276, 3) := dk_167 1 20 (dk_at dksL_law_86 15 rfl rfl)
theorem dL_law_2173 : decode cL_law 2173 = .ok (.aload_n 1, 1) := dk_43 (dk_at dksL_law_86 18 rfl rfl)
theorem dL_law_2174 : decode cL_law 2174 = .ok (.aload_n 3, 1) := dk_45 (dk_at dksL_law_86 19 rfl rfl)
theorem dL_law_2175 : decode cL_law 2175 = .ok (.invokestatic 256, 3) := dk_184 1 0 (dk_at dksL_law_86 20 rfl rfl)
theorem dL_law_2178 : decode cL_law 2178 = .ok (.istore 6, 2) := dk_54 6 (dk_at dksL_law_87 0 rfl rfl)
theorem dL_law_2180 : decode cL_law 2180 = .ok (.aload_n 2, 1) := dk_44 (dk_at dksL_law_87 2 rfl rfl)
theorem dL_law_2181 : decode cL_law 2181 = .ok (.invokevirtual 258, 3) := dk_182 1 2 (dk_at dksL_law_87 3 rfl rfl)
theorem dL_law_2184 : decode cL_law 2184 = .ok (.istore 7, 2) := dk_54 7 (dk_at dksL_law_87 6 rfl rfl)
theorem dL_law_2186 : decode cL_law 2186 = .ok (.aload_n 2, 1) := dk_44 (dk_at dksL_law_87 8 rfl rfl)
theorem dL_law_2187 : decode cL_law 2187 = .ok (.invokevirtual 153, 3) := dk_182 0 153 (dk_at dksL_law_87 9 rfl rfl)
theorem dL_law_2190 : decode cL_law 2190 = .ok (.iload 6, 2) := dk_21 6 (dk_at dksL_law_87 12 rfl rfl)
theorem dL_law_2192 : decode cL_law 2192 = .ok (.if_icmp .eq 5, 3) := dk_159 0 5 (dk_at dksL_law_87 14 rfl rfl)
theorem dL_law_2195 : decode cL_law 2195 = .ok (.iconst 0, 1) := dk_3 (dk_at dksL_law_87 17 rfl rfl)
theorem dL_law_2196 : decode cL_law 2196 = .ok (.ireturn, 1) := dk_172 (dk_at dksL_law_87 18 rfl rfl)
theorem dL_law_2197 : decode cL_law 2197 = .ok (.iload 6, 2) := dk_21 6 (dk_at dksL_law_87 19 rfl rfl)
theorem dL_law_2199 : decode cL_law 2199 = .ok (.ifCond .ne 15, 3) := dk_154 0 15 (dk_at dksL_law_87 21 rfl rfl)
theorem dL_law_2202 : decode cL_law 2202 = .ok (.aload_n 3, 1) := dk_45 (dk_at dksL_law_88 0 rfl rfl)
theorem dL_law_2203 : decode cL_law 2203 = .ok (.iconst 0, 1) := dk_3 (dk_at dksL_law_88 1 rfl rfl)
theorem dL_law_2204 : decode cL_law 2204 = .ok (.laload, 1) := dk_47 (dk_at dksL_law_88 2 rfl rfl)
theorem dL_law_2205 : decode cL_law 2205 = .ok (.iload 7, 2) := dk_21 7 (dk_at dksL_law_88 3 rfl rfl)
theorem dL_law_2207 : decode cL_law 2207 = .ok (.i2l, 1) := dk_133 (dk_at dksL_law_88 5 rfl rfl)
theorem dL_law_2208 : decode cL_law 2208 = .ok (.lcmp, 1) := dk_148 (dk_at dksL_law_88 6 rfl rfl)
theorem dL_law_2209 : decode cL_law 2209 = .ok (.ifCond .eq 5, 3) := dk_153 0 5 (dk_at dksL_law_88 7 rfl rfl)
theorem dL_law_2212 : decode cL_law 2212 = .ok (.iconst 0, 1) := dk_3 (dk_at dksL_law_88 10 rfl rfl)
theorem dL_law_2213 : decode cL_law 2213 = .ok (.ireturn, 1) := dk_172 (dk_at dksL_law_88 11 rfl rfl)
theorem dL_law_2214 : decode cL_law 2214 = .ok (.goto 232, 3) := dk_167 0 232 (dk_at dksL_law_88 12 rfl rfl)
theorem dL_law_2217 : decode cL_law 2217 = .ok (.aload_n 1, 1) := dk_43 (dk_at dksL_law_88 15 rfl rfl)
theorem dL_law_2218 : decode cL_law 2218 = .ok (.aload_n 3, 1) := dk_45 (dk_at dksL_law_88 16 rfl rfl)
theorem dL_law_2219 : decode cL_law 2219 = .ok (.invokestatic 259, 3) := dk_184 1 3 (dk_at dksL_law_88 17 rfl rfl)
theorem dL_law_2222 : decode cL_law 2222 = .ok (.istore 6, 2) := dk_54 6 (dk_at dksL_law_88 20 rfl rfl)
theorem dL_law_2224 : decode cL_law 2224 = .ok (.aload_n 2, 1) := dk_44 (dk_at dksL_law_88 22 rfl rfl)
theorem dL_law_2225 : decode cL_law 2225 = .ok (.invokevirtual 261, 3) := dk_182 1 5 (dk_at dksL_law_89 0 rfl rfl)
theorem dL_law_2228 : decode cL_law 2228 = .ok (.istore 7, 2) := dk_54 7 (dk_at dksL_law_89 3 rfl rfl)
theorem dL_law_2230 : decode cL_law 2230 = .ok (.aload_n 2, 1) := dk_44 (dk_at dksL_law_89 5 rfl rfl)
theorem dL_law_2231 : decode cL_law 2231 = .ok (.invokevirtual 153, 3) := dk_182 0 153 (dk_at dksL_law_89 6 rfl rfl)
theorem dL_law_2234 : decode cL_law 2234 = .ok (.iload 6, 2) := dk_21 6 (dk_at dksL_law_89 9 rfl rfl)
theorem dL_law_2236 : decode cL_law 2236 = .ok (.if_icmp .eq 5, 3) := dk_159 0 5 (dk_at dksL_law_89 11 rfl rfl)
theorem dL_law_2239 : decode cL_law 2239 = .ok (.iconst 0, 1) := dk_3 (dk_at dksL_law_89 14 rfl rfl)
theorem dL_law_2240 : decode cL_law 2240 = .ok (.ireturn, 1) := dk_172 (dk_at dksL_law_89 15 rfl rfl)
theorem dL_law_2241 : decode cL_law 2241 = .ok (.iload 6, 2) := dk_21 6 (dk_at dksL_law_89 16 rfl rfl)
theorem dL_law_2243 : decode cL_law 2243 = .ok (.ifCond .ne 15, 3) := dk_154 0 15 (dk_at dksL_law_89 18 rfl rfl)
theorem dL_law_2246 : decode cL_law 2246 = .ok (.aload_n 3, 1) := dk_45 (dk_at dksL_law_89 21 rfl rfl)
theorem dL_law_2247 : decode cL_law 2247 = .ok (.iconst 0, 1) := dk_3 (dk_at dksL_law_89 22 rfl rfl)
theorem dL_law_2248 : decode cL_law 2248 = .ok (.laload, 1) := dk_47 (dk_at dksL_law_89 23 rfl rfl)
theorem dL_law_2249 : decode cL_law 2249 = .ok (.iload 7, 2) := dk_21 7 (dk_at dksL_law_90 0 rfl rfl)
theorem dL_law_2251 : decode cL_law 2251 = .ok (.i2l, 1) := dk_133 (dk_at dksL_law_90 2 rfl rfl)
theorem dL_law_2252 : decode cL_law 2252 = .ok (.lcmp, 1) := dk_148 (dk_at dksL_law_90 3 rfl rfl)
theorem dL_law_2253 : decode cL_law 2253 = .ok (.ifCond .eq 5, 3) := dk_153 0 5 (dk_at dksL_law_90 4 rfl rfl)
theorem dL_law_2256 : decode cL_law 2256 = .ok (.iconst 0, 1) := dk_3 (dk_at dksL_law_90 7 rfl rfl)
theorem dL_law_2257 : decode cL_law 2257 = .ok (.ireturn, 1) := dk_172 (dk_at dksL_law_90 8 rfl rfl)
theorem dL_law_2258 : decode cL_law 2258 = .ok (.goto 188, 3) := dk_167 0 188 (dk_at dksL_law_90 9 rfl rfl)
theorem dL_law_2261 : decode cL_law 2261 = .ok (.aload_n 1, 1) := dk_43 (dk_at dksL_law_90 12 rfl rfl)
theorem dL_law_2262 : decode cL_law 2262 = .ok (.aload_n 0, 1) := dk_42 (dk_at dksL_law_90 13 rfl rfl)
theorem dL_law_2263 : decode cL_law 2263 = .ok (.iload 5, 2) := dk_21 5 (dk_at dksL_law_90 14 rfl rfl)
theorem dL_law_2265 : decode cL_law 2265 = .ok (.iconst 1, 1) := dk_4 (dk_at dksL_law_90 16 rfl rfl)
theorem dL_law_2266 : decode cL_law 2266 = .ok (.iadd, 1) := dk_96 (dk_at dksL_law_90 17 rfl rfl)
theorem dL_law_2267 : decode cL_law 2267 = .ok (.iaload, 1) := dk_46 (dk_at dksL_law_90 18 rfl rfl)
theorem dL_law_2268 : decode cL_law 2268 = .ok (.aload_n 0, 1) := dk_42 (dk_at dksL_law_90 19 rfl rfl)
theorem dL_law_2269 : decode cL_law 2269 = .ok (.iload 5, 2) := dk_21 5 (dk_at dksL_law_90 20 rfl rfl)
theorem dL_law_2271 : decode cL_law 2271 = .ok (.iconst 2, 1) := dk_5 (dk_at dksL_law_90 22 rfl rfl)
theorem dL_law_2272 : decode cL_law 2272 = .ok (.iadd, 1) := dk_96 (dk_at dksL_law_90 23 rfl rfl)
theorem dL_law_2273 : decode cL_law 2273 = .ok (.iaload, 1) := dk_46 (dk_at dksL_law_91 0 rfl rfl)
theorem dL_law_2274 : decode cL_law 2274 = .ok (.ifCond .eq 7, 3) := dk_153 0 7 (dk_at dksL_law_91 1 rfl rfl)
theorem dL_law_2277 : decode cL_law 2277 = .ok (.iconst 1, 1) := dk_4 (dk_at dksL_law_91 4 rfl rfl)
theorem dL_law_2278 : decode cL_law 2278 = .ok (.goto 4, 3) := dk_167 0 4 (dk_at dksL_law_91 5 rfl rfl)
theorem dL_law_2281 : decode cL_law 2281 = .ok (.iconst 0, 1) := dk_3 (dk_at dksL_law_91 8 rfl rfl)
theorem dL_law_2282 : decode cL_law 2282 = .ok (.aload_n 3, 1) := dk_45 (dk_at dksL_law_91 9 rfl rfl)
theorem dL_law_2283 : decode cL_law 2283 = .ok (.invokestatic 262, 3) := dk_184 1 6 (dk_at dksL_law_91 10 rfl rfl)
theorem dL_law_2286 : decode cL_law 2286 = .ok (.istore 6, 2) := dk_54 6 (dk_at dksL_law_91 13 rfl rfl)
theorem dL_law_2288 : decode cL_law 2288 = .ok (.aload_n 2, 1) := dk_44 (dk_at dksL_law_91 15 rfl rfl)
theorem dL_law_2289 : decode cL_law 2289 = .ok (.aload_n 0, 1) := dk_42 (dk_at dksL_law_91 16 rfl rfl)
theorem dL_law_2290 : decode cL_law 2290 = .ok (.iload 5, 2) := dk_21 5 (dk_at dksL_law_91 17 rfl rfl)
theorem dL_law_2292 : decode cL_law 2292 = .ok (.iconst 1, 1) := dk_4 (dk_at dksL_law_91 19 rfl rfl)
theorem dL_law_2293 : decode cL_law 2293 = .ok (.iadd, 1) := dk_96 (dk_at dksL_law_91 20 rfl rfl)
theorem dL_law_2294 : decode cL_law 2294 = .ok (.iaload, 1) := dk_46 (dk_at dksL_law_91 21 rfl rfl)
theorem dL_law_2295 : decode cL_law 2295 = .ok (.aload_n 0, 1) := dk_42 (dk_at dksL_law_91 22 rfl rfl)
theorem dL_law_2296 : decode cL_law 2296 = .ok (.iload 5, 2) := dk_21 5 (dk_at dksL_law_92 0 rfl rfl)
theorem dL_law_2298 : decode cL_law 2298 = .ok (.iconst 2, 1) := dk_5 (dk_at dksL_law_92 2 rfl rfl)
theorem dL_law_2299 : decode cL_law 2299 = .ok (.iadd, 1) := dk_96 (dk_at dksL_law_92 3 rfl rfl)
theorem dL_law_2300 : decode cL_law 2300 = .ok (.iaload, 1) := dk_46 (dk_at dksL_law_92 4 rfl rfl)
theorem dL_law_2301 : decode cL_law 2301 = .ok (.ifCond .eq 7, 3) := dk_153 0 7 (dk_at dksL_law_92 5 rfl rfl)
theorem dL_law_2304 : decode cL_law 2304 = .ok (.iconst 1, 1) := dk_4 (dk_at dksL_law_92 8 rfl rfl)
theorem dL_law_2305 : decode cL_law 2305 = .ok (.goto 4, 3) := dk_167 0 4 (dk_at dksL_law_92 9 rfl rfl)
theorem dL_law_2308 : decode cL_law 2308 = .ok (.iconst 0, 1) := dk_3 (dk_at dksL_law_92 12 rfl rfl)
theorem dL_law_2309 : decode cL_law 2309 = .ok (.invokevirtual 265, 3) := dk_182 1 9 (dk_at dksL_law_92 13 rfl rfl)
theorem dL_law_2312 : decode cL_law 2312 = .ok (.istore 7, 2) := dk_54 7 (dk_at dksL_law_92 16 rfl rfl)
theorem dL_law_2314 : decode cL_law 2314 = .ok (.aload_n 2, 1) := dk_44 (dk_at dksL_law_92 18 rfl rfl)
theorem dL_law_2315 : decode cL_law 2315 = .ok (.invokevirtual 153, 3) := dk_182 0 153 (dk_at dksL_law_92 19 rfl rfl)
theorem dL_law_2318 : decode cL_law 2318 = .ok (.iload 6, 2) := dk_21 6 (dk_at dksL_law_92 22 rfl rfl)
theorem dL_law_2320 : decode cL_law 2320 = .ok (.if_icmp .eq 5, 3) := dk_159 0 5 (dk_at dksL_law_93 0 rfl rfl)
theorem dL_law_2323 : decode cL_law 2323 = .ok (.iconst 0, 1) := dk_3 (dk_at dksL_law_93 3 rfl rfl)
theorem dL_law_2324 : decode cL_law 2324 = .ok (.ireturn, 1) := dk_172 (dk_at dksL_law_93 4 rfl rfl)
theorem dL_law_2325 : decode cL_law 2325 = .ok (.iload 6, 2) := dk_21 6 (dk_at dksL_law_93 5 rfl rfl)
theorem dL_law_2327 : decode cL_law 2327 = .ok (.ifCond .ne 15, 3) := dk_154 0 15 (dk_at dksL_law_93 7 rfl rfl)
theorem dL_law_2330 : decode cL_law 2330 = .ok (.aload_n 3, 1) := dk_45 (dk_at dksL_law_93 10 rfl rfl)
theorem dL_law_2331 : decode cL_law 2331 = .ok (.iconst 0, 1) := dk_3 (dk_at dksL_law_93 11 rfl rfl)
theorem dL_law_2332 : decode cL_law 2332 = .ok (.laload, 1) := dk_47 (dk_at dksL_law_93 12 rfl rfl)
theorem dL_law_2333 : decode cL_law 2333 = .ok (.iload 7, 2) := dk_21 7 (dk_at dksL_law_93 13 rfl rfl)
theorem dL_law_2335 : decode cL_law 2335 = .ok (.i2l, 1) := dk_133 (dk_at dksL_law_93 15 rfl rfl)
theorem dL_law_2336 : decode cL_law 2336 = .ok (.lcmp, 1) := dk_148 (dk_at dksL_law_93 16 rfl rfl)
theorem dL_law_2337 : decode cL_law 2337 = .ok (.ifCond .eq 5, 3) := dk_153 0 5 (dk_at dksL_law_93 17 rfl rfl)
theorem dL_law_2340 : decode cL_law 2340 = .ok (.iconst 0, 1) := dk_3 (dk_at dksL_law_93 20 rfl rfl)
theorem dL_law_2341 : decode cL_law 2341 = .ok (.ireturn, 1) := dk_172 (dk_at dksL_law_93 21 rfl rfl)
theorem dL_law_2342 : decode cL_law 2342 = .ok (.goto 104, 3) := dk_167 0 104 (dk_at dksL_law_94 0 rfl rfl)
theorem dL_law_2345 : decode cL_law 2345 = .ok (.aload_n 1, 1) := dk_43 (dk_at dksL_law_94 3 rfl rfl)
theorem dL_law_2346 : decode cL_law 2346 = .ok (.aload_n 3, 1) := dk_45 (dk_at dksL_law_94 4 rfl rfl)
theorem dL_law_2347 : decode cL_law 2347 = .ok (.invokestatic 266, 3) := dk_184 1 10 (dk_at dksL_law_94 5 rfl rfl)
theorem dL_law_2350 : decode cL_law 2350 = .ok (.istore 6, 2) := dk_54 6 (dk_at dksL_law_94 8 rfl rfl)
theorem dL_law_2352 : decode cL_law 2352 = .ok (.aload_n 2, 1) := dk_44 (dk_at dksL_law_94 10 rfl rfl)
theorem dL_law_2353 : decode cL_law 2353 = .ok (.invokevirtual 268, 3) := dk_182 1 12 (dk_at dksL_law_94 11 rfl rfl)
theorem dL_law_2356 : decode cL_law 2356 = .ok (.istore 7, 2) := dk_54 7 (dk_at dksL_law_94 14 rfl rfl)
theorem dL_law_2358 : decode cL_law 2358 = .ok (.aload_n 2, 1) := dk_44 (dk_at dksL_law_94 16 rfl rfl)
theorem dL_law_2359 : decode cL_law 2359 = .ok (.invokevirtual 153, 3) := dk_182 0 153 (dk_at dksL_law_94 17 rfl rfl)
theorem dL_law_2362 : decode cL_law 2362 = .ok (.iload 6, 2) := dk_21 6 (dk_at dksL_law_94 20 rfl rfl)
theorem dL_law_2364 : decode cL_law 2364 = .ok (.if_icmp .eq 5, 3) := dk_159 0 5 (dk_at dksL_law_95 0 rfl rfl)
theorem dL_law_2367 : decode cL_law 2367 = .ok (.iconst 0, 1) := dk_3 (dk_at dksL_law_95 3 rfl rfl)
theorem dL_law_2368 : decode cL_law 2368 = .ok (.ireturn, 1) := dk_172 (dk_at dksL_law_95 4 rfl rfl)
theorem dL_law_2369 : decode cL_law 2369 = .ok (.iload 6, 2) := dk_21 6 (dk_at dksL_law_95 5 rfl rfl)
theorem dL_law_2371 : decode cL_law 2371 = .ok (.ifCond .ne 15, 3) := dk_154 0 15 (dk_at dksL_law_95 7 rfl rfl)
theorem dL_law_2374 : decode cL_law 2374 = .ok (.aload_n 3, 1) := dk_45 (dk_at dksL_law_95 10 rfl rfl)
theorem dL_law_2375 : decode cL_law 2375 = .ok (.iconst 0, 1) := dk_3 (dk_at dksL_law_95 11 rfl rfl)
theorem dL_law_2376 : decode cL_law 2376 = .ok (.laload, 1) := dk_47 (dk_at dksL_law_95 12 rfl rfl)
theorem dL_law_2377 : decode cL_law 2377 = .ok (.iload 7, 2) := dk_21 7 (dk_at dksL_law_95 13 rfl rfl)
theorem dL_law_2379 : decode cL_law 2379 = .ok (.i2l, 1) := dk_133 (dk_at dksL_law_95 15 rfl rfl)
theorem dL_law_2380 : decode cL_law 2380 = .ok (.lcmp, 1) := dk_148 (dk_at dksL_law_95 16 rfl rfl)
theorem dL_law_2381 : decode cL_law 2381 = .ok (.ifCond .eq 5, 3) := dk_153 0 5 (dk_at dksL_law_95 17 rfl rfl)
theorem dL_law_2384 : decode cL_law 2384 = .ok (.iconst 0, 1) := dk_3 (dk_at dksL_law_95 20 rfl rfl)
theorem dL_law_2385 : decode cL_law 2385 = .ok (.ireturn, 1) := dk_172 (dk_at dksL_law_95 21 rfl rfl)
theorem dL_law_2386 : decode cL_law 2386 = .ok (.goto 60, 3) := dk_167 0 60 (dk_at dksL_law_96 0 rfl rfl)
theorem dL_law_2389 : decode cL_law 2389 = .ok (.aload_n 1, 1) := dk_43 (dk_at dksL_law_96 3 rfl rfl)
theorem dL_law_2390 : decode cL_law 2390 = .ok (.invokevirtual 269, 3) := dk_182 1 13 (dk_at dksL_law_96 4 rfl rfl)
theorem dL_law_2393 : decode cL_law 2393 = .ok (.aload_n 2, 1) := dk_44 (dk_at dksL_law_96 7 rfl rfl)
theorem dL_law_2394 : decode cL_law 2394 = .ok (.invokevirtual 272, 3) := dk_182 1 16 (dk_at dksL_law_96 8 rfl rfl)
theorem dL_law_2397 : decode cL_law 2397 = .ok (.if_icmp .eq 49, 3) := dk_159 0 49 (dk_at dksL_law_96 11 rfl rfl)
theorem dL_law_2400 : decode cL_law 2400 = .ok (.iconst 0, 1) := dk_3 (dk_at dksL_law_96 14 rfl rfl)
theorem dL_law_2401 : decode cL_law 2401 = .ok (.ireturn, 1) := dk_172 (dk_at dksL_law_96 15 rfl rfl)
theorem dL_law_2402 : decode cL_law 2402 = .ok (.aload_n 1, 1) := dk_43 (dk_at dksL_law_96 16 rfl rfl)
theorem dL_law_2403 : decode cL_law 2403 = .ok (.aload_n 3, 1) := dk_45 (dk_at dksL_law_96 17 rfl rfl)
theorem dL_law_2404 : decode cL_law 2404 = .ok (.invokestatic 273, 3) := dk_184 1 17 (dk_at dksL_law_96 18 rfl rfl)
theorem dL_law_2407 : decode cL_law 2407 = .ok (.istore 6, 2) := dk_54 6 (dk_at dksL_law_96 21 rfl rfl)
theorem dL_law_2409 : decode cL_law 2409 = .ok (.aload_n 2, 1) := dk_44 (dk_at dksL_law_96 23 rfl rfl)
theorem dL_law_2410 : decode cL_law 2410 = .ok (.invokevirtual 275, 3) := dk_182 1 19 (dk_at dksL_law_97 0 rfl rfl)
theorem dL_law_2413 : decode cL_law 2413 = .ok (.istore 7, 2) := dk_54 7 (dk_at dksL_law_97 3 rfl rfl)
theorem dL_law_2415 : decode cL_law 2415 = .ok (.aload_n 2, 1) := dk_44 (dk_at dksL_law_97 5 rfl rfl)
theorem dL_law_2416 : decode cL_law 2416 = .ok (.invokevirtual 153, 3) := dk_182 0 153 (dk_at dksL_law_97 6 rfl rfl)
theorem dL_law_2419 : decode cL_law 2419 = .ok (.iload 6, 2) := dk_21 6 (dk_at dksL_law_97 9 rfl rfl)
theorem dL_law_2421 : decode cL_law 2421 = .ok (.if_icmp .eq 5, 3) := dk_159 0 5 (dk_at dksL_law_97 11 rfl rfl)
theorem dL_law_2424 : decode cL_law 2424 = .ok (.iconst 0, 1) := dk_3 (dk_at dksL_law_97 14 rfl rfl)
theorem dL_law_2425 : decode cL_law 2425 = .ok (.ireturn, 1) := dk_172 (dk_at dksL_law_97 15 rfl rfl)
theorem dL_law_2426 : decode cL_law 2426 = .ok (.iload 6, 2) := dk_21 6 (dk_at dksL_law_97 16 rfl rfl)
theorem dL_law_2428 : decode cL_law 2428 = .ok (.ifCond .ne 15, 3) := dk_154 0 15 (dk_at dksL_law_97 18 rfl rfl)
theorem dL_law_2431 : decode cL_law 2431 = .ok (.aload_n 3, 1) := dk_45 (dk_at dksL_law_97 21 rfl rfl)
theorem dL_law_2432 : decode cL_law 2432 = .ok (.iconst 0, 1) := dk_3 (dk_at dksL_law_97 22 rfl rfl)
theorem dL_law_2433 : decode cL_law 2433 = .ok (.laload, 1) := dk_47 (dk_at dksL_law_97 23 rfl rfl)
theorem dL_law_2434 : decode cL_law 2434 = .ok (.iload 7, 2) := dk_21 7 (dk_at dksL_law_98 0 rfl rfl)
theorem dL_law_2436 : decode cL_law 2436 = .ok (.i2l, 1) := dk_133 (dk_at dksL_law_98 2 rfl rfl)
theorem dL_law_2437 : decode cL_law 2437 = .ok (.lcmp, 1) := dk_148 (dk_at dksL_law_98 3 rfl rfl)
theorem dL_law_2438 : decode cL_law 2438 = .ok (.ifCond .eq 5, 3) := dk_153 0 5 (dk_at dksL_law_98 4 rfl rfl)
theorem dL_law_2441 : decode cL_law 2441 = .ok (.iconst 0, 1) := dk_3 (dk_at dksL_law_98 7 rfl rfl)
theorem dL_law_2442 : decode cL_law 2442 = .ok (.ireturn, 1) := dk_172 (dk_at dksL_law_98 8 rfl rfl)
theorem dL_law_2443 : decode cL_law 2443 = .ok (.goto 3, 3) := dk_167 0 3 (dk_at dksL_law_98 9 rfl rfl)
theorem dL_law_2446 : decode cL_law 2446 = .ok (.iinc 5 5, 3) := dk_132 5 5 (dk_at dksL_law_98 12 rfl rfl)
theorem dL_law_2449 : decode cL_law 2449 = .ok (.goto (-2421), 3) := dk_167 246 139 (dk_at dksL_law_98 15 rfl rfl)
theorem dL_law_2452 : decode cL_law 2452 = .ok (.iconst 1, 1) := dk_4 (dk_at dksL_law_98 18 rfl rfl)
theorem dL_law_2453 : decode cL_law 2453 = .ok (.ireturn, 1) := dk_172 (dk_at dksL_law_98 19 rfl rfl)
theorem pv_4 : Cond.selects "JumpHall" ({ cls := "JumpHall", name := "does", desc := "(LJumpHall$Deed;)I" } : MethodName) ({ cls := "JumpHall", name := "does", desc := "(LJumpHall$Deed;)I" } : MethodName) ∈ lw_all := lw_w 4 rfl rfl
theorem pv_9 : Cond.selects "JumpHall" ({ cls := "JumpHall", name := "jumperAt", desc := "(I)LJumpHall$Jumper;" } : MethodName) ({ cls := "JumpHall", name := "jumperAt", desc := "(I)LJumpHall$Jumper;" } : MethodName) ∈ lw_all := lw_w 9 rfl rfl
theorem pv_6 : Cond.selects "JumpHall" ({ cls := "JumpHall", name := "matAt", desc := "(I)LJumpHall$Mat;" } : MethodName) ({ cls := "JumpHall", name := "matAt", desc := "(I)LJumpHall$Mat;" } : MethodName) ∈ lw_all := lw_w 6 rfl rfl
theorem pv_10 : Cond.selects "JumpHall" ({ cls := "JumpHall", name := "partyAt", desc := "(I)LJumpHall$Party;" } : MethodName) ({ cls := "JumpHall", name := "partyAt", desc := "(I)LJumpHall$Party;" } : MethodName) ∈ lw_all := lw_w 10 rfl rfl
theorem pv_20 : Cond.selects "JumpHall$Command" ({ cls := "JumpHall$Command", name := "deed", desc := "(LJumpHall$Hall;)LJumpHall$Deed;" } : MethodName) ({ cls := "JumpHall$Command", name := "deed", desc := "(LJumpHall$Hall;)LJumpHall$Deed;" } : MethodName) ∈ lw_all := lw_w 20 rfl rfl
theorem pv_8 : Cond.selects "JumpHall$Hall" ({ cls := "JumpHall$Hall", name := "checkBearing", desc := "(LJumpHall$Jumper;I)V" } : MethodName) ({ cls := "JumpHall$Hall", name := "checkBearing", desc := "(LJumpHall$Jumper;I)V" } : MethodName) ∈ lw_all := lw_w 8 rfl rfl
theorem pv_7 : Cond.selects "JumpHall$Hall" ({ cls := "JumpHall$Hall", name := "checkUp", desc := "(LJumpHall$Jumper;I)V" } : MethodName) ({ cls := "JumpHall$Hall", name := "checkUp", desc := "(LJumpHall$Jumper;I)V" } : MethodName) ∈ lw_all := lw_w 7 rfl rfl
theorem pv_13 : Cond.selects "JumpHall$Hall" ({ cls := "JumpHall$Hall", name := "clears", desc := "(I)I" } : MethodName) ({ cls := "JumpHall$Hall", name := "clears", desc := "(I)I" } : MethodName) ∈ lw_all := lw_w 13 rfl rfl
theorem pv_14 : Cond.selects "JumpHall$Hall" ({ cls := "JumpHall$Hall", name := "comes", desc := "(I)V" } : MethodName) ({ cls := "JumpHall$Hall", name := "comes", desc := "(I)V" } : MethodName) ∈ lw_all := lw_w 14 rfl rfl
theorem pv_11 : Cond.selects "JumpHall$Hall" ({ cls := "JumpHall$Hall", name := "minuteGoesBy", desc := "()I" } : MethodName) ({ cls := "JumpHall$Hall", name := "minuteGoesBy", desc := "()I" } : MethodName) ∈ lw_all := lw_w 11 rfl rfl
theorem pv_12 : Cond.selects "JumpHall$Hall" ({ cls := "JumpHall$Hall", name := "wearMats", desc := "()V" } : MethodName) ({ cls := "JumpHall$Hall", name := "wearMats", desc := "()V" } : MethodName) ∈ lw_all := lw_w 12 rfl rfl
theorem pv_15 : Cond.selects "JumpHall$Parser" ({ cls := "JumpHall$Parser", name := "command", desc := "()LJumpHall$Command;" } : MethodName) ({ cls := "JumpHall$Parser", name := "command", desc := "()LJumpHall$Command;" } : MethodName) ∈ lw_all := lw_w 15 rfl rfl
theorem pv_19 : Cond.selects "JumpHall$Parser" ({ cls := "JumpHall$Parser", name := "next", desc := "(CC)I" } : MethodName) ({ cls := "JumpHall$Parser", name := "next", desc := "(CC)I" } : MethodName) ∈ lw_all := lw_w 19 rfl rfl
theorem pv_18 : Cond.selects "JumpHall$Parser" ({ cls := "JumpHall$Parser", name := "number", desc := "()I" } : MethodName) ({ cls := "JumpHall$Parser", name := "number", desc := "()I" } : MethodName) ∈ lw_all := lw_w 18 rfl rfl
theorem pv_17 : Cond.selects "JumpHall$Parser" ({ cls := "JumpHall$Parser", name := "peek", desc := "()C" } : MethodName) ({ cls := "JumpHall$Parser", name := "peek", desc := "()C" } : MethodName) ∈ lw_all := lw_w 17 rfl rfl
theorem pv_16 : Cond.selects "JumpHall$Parser" ({ cls := "JumpHall$Parser", name := "word", desc := "()Ljava/lang/String;" } : MethodName) ({ cls := "JumpHall$Parser", name := "word", desc := "()Ljava/lang/String;" } : MethodName) ∈ lw_all := lw_w 16 rfl rfl
theorem pv_61 : Cond.selects "JumpHallModel" ({ cls := "JumpHallModel", name := "allBroken", desc := "()I" } : MethodName) ({ cls := "JumpHallModel", name := "allBroken", desc := "()I" } : MethodName) ∈ lw_all := lw_w 61 rfl rfl
theorem pv_36 : Cond.selects "JumpHallModel" ({ cls := "JumpHallModel", name := "bears", desc := "(I)I" } : MethodName) ({ cls := "JumpHallModel", name := "bears", desc := "(I)I" } : MethodName) ∈ lw_all := lw_w 36 rfl rfl
theorem pv_37 : Cond.selects "JumpHallModel" ({ cls := "JumpHallModel", name := "broken", desc := "(I)I" } : MethodName) ({ cls := "JumpHallModel", name := "broken", desc := "(I)I" } : MethodName) ∈ lw_all := lw_w 37 rfl rfl
theorem pv_31 : Cond.selects "JumpHallModel" ({ cls := "JumpHallModel", name := "changed", desc := "(I)I" } : MethodName) ({ cls := "JumpHallModel", name := "changed", desc := "(I)I" } : MethodName) ∈ lw_all := lw_w 31 rfl rfl
theorem pv_70 : Cond.selects "JumpHallModel" ({ cls := "JumpHallModel", name := "digit", desc := "()I" } : MethodName) ({ cls := "JumpHallModel", name := "digit", desc := "()I" } : MethodName) ∈ lw_all := lw_w 70 rfl rfl
theorem pv_71 : Cond.selects "JumpHallModel" ({ cls := "JumpHallModel", name := "does", desc := "(I)I" } : MethodName) ({ cls := "JumpHallModel", name := "does", desc := "(I)I" } : MethodName) ∈ lw_all := lw_w 71 rfl rfl
theorem pv_47 : Cond.selects "JumpHallModel" ({ cls := "JumpHallModel", name := "downIt", desc := "(I)I" } : MethodName) ({ cls := "JumpHallModel", name := "downIt", desc := "(I)I" } : MethodName) ∈ lw_all := lw_w 47 rfl rfl
theorem pv_68 : Cond.selects "JumpHallModel" ({ cls := "JumpHallModel", name := "expects", desc := "(I)V" } : MethodName) ({ cls := "JumpHallModel", name := "expects", desc := "(I)V" } : MethodName) ∈ lw_all := lw_w 68 rfl rfl
theorem pv_32 : Cond.selects "JumpHallModel" ({ cls := "JumpHallModel", name := "fixIt", desc := "(II)I" } : MethodName) ({ cls := "JumpHallModel", name := "fixIt", desc := "(II)I" } : MethodName) ∈ lw_all := lw_w 32 rfl rfl
theorem pv_41 : Cond.selects "JumpHallModel" ({ cls := "JumpHallModel", name := "guardAt", desc := "(I)I" } : MethodName) ({ cls := "JumpHallModel", name := "guardAt", desc := "(I)I" } : MethodName) ∈ lw_all := lw_w 41 rfl rfl
theorem pv_67 : Cond.selects "JumpHallModel" ({ cls := "JumpHallModel", name := "here", desc := "()I" } : MethodName) ({ cls := "JumpHallModel", name := "here", desc := "()I" } : MethodName) ∈ lw_all := lw_w 67 rfl rfl
theorem pv_52 : Cond.selects "JumpHallModel" ({ cls := "JumpHallModel", name := "isGuard", desc := "(I)Z" } : MethodName) ({ cls := "JumpHallModel", name := "isGuard", desc := "(I)Z" } : MethodName) ∈ lw_all := lw_w 52 rfl rfl
theorem pv_44 : Cond.selects "JumpHallModel" ({ cls := "JumpHallModel", name := "isJumper", desc := "(I)Z" } : MethodName) ({ cls := "JumpHallModel", name := "isJumper", desc := "(I)Z" } : MethodName) ∈ lw_all := lw_w 44 rfl rfl
theorem pv_33 : Cond.selects "JumpHallModel" ({ cls := "JumpHallModel", name := "isMat", desc := "(I)Z" } : MethodName) ({ cls := "JumpHallModel", name := "isMat", desc := "(I)Z" } : MethodName) ∈ lw_all := lw_w 33 rfl rfl
theorem pv_35 : Cond.selects "JumpHallModel" ({ cls := "JumpHallModel", name := "isOn", desc := "(II)Z" } : MethodName) ({ cls := "JumpHallModel", name := "isOn", desc := "(II)Z" } : MethodName) ∈ lw_all := lw_w 35 rfl rfl
theorem pv_54 : Cond.selects "JumpHallModel" ({ cls := "JumpHallModel", name := "isParty", desc := "(I)Z" } : MethodName) ({ cls := "JumpHallModel", name := "isParty", desc := "(I)Z" } : MethodName) ∈ lw_all := lw_w 54 rfl rfl
theorem pv_42 : Cond.selects "JumpHallModel" ({ cls := "JumpHallModel", name := "jumperComes", desc := "(III)I" } : MethodName) ({ cls := "JumpHallModel", name := "jumperComes", desc := "(III)I" } : MethodName) ∈ lw_all := lw_w 42 rfl rfl
theorem pv_48 : Cond.selects "JumpHallModel" ({ cls := "JumpHallModel", name := "jumpersAt", desc := "(I)I" } : MethodName) ({ cls := "JumpHallModel", name := "jumpersAt", desc := "(I)I" } : MethodName) ∈ lw_all := lw_w 48 rfl rfl
theorem pv_57 : Cond.selects "JumpHallModel" ({ cls := "JumpHallModel", name := "jumps", desc := "(I)V" } : MethodName) ({ cls := "JumpHallModel", name := "jumps", desc := "(I)V" } : MethodName) ∈ lw_all := lw_w 57 rfl rfl
theorem pv_28 : Cond.selects "JumpHallModel" ({ cls := "JumpHallModel", name := "layAside", desc := "()V" } : MethodName) ({ cls := "JumpHallModel", name := "layAside", desc := "()V" } : MethodName) ∈ lw_all := lw_w 28 rfl rfl
theorem pv_34 : Cond.selects "JumpHallModel" ({ cls := "JumpHallModel", name := "lowestOn", desc := "(I)I" } : MethodName) ({ cls := "JumpHallModel", name := "lowestOn", desc := "(I)I" } : MethodName) ∈ lw_all := lw_w 34 rfl rfl
theorem pv_56 : Cond.selects "JumpHallModel" ({ cls := "JumpHallModel", name := "minuteGoes", desc := "()I" } : MethodName) ({ cls := "JumpHallModel", name := "minuteGoes", desc := "()I" } : MethodName) ∈ lw_all := lw_w 56 rfl rfl
theorem pv_69 : Cond.selects "JumpHallModel" ({ cls := "JumpHallModel", name := "number", desc := "()I" } : MethodName) ({ cls := "JumpHallModel", name := "number", desc := "()I" } : MethodName) ∈ lw_all := lw_w 69 rfl rfl
theorem pv_50 : Cond.selects "JumpHallModel" ({ cls := "JumpHallModel", name := "ofSize", desc := "(II)I" } : MethodName) ({ cls := "JumpHallModel", name := "ofSize", desc := "(II)I" } : MethodName) ∈ lw_all := lw_w 50 rfl rfl
theorem pv_40 : Cond.selects "JumpHallModel" ({ cls := "JumpHallModel", name := "on", desc := "(IZ)I" } : MethodName) ({ cls := "JumpHallModel", name := "on", desc := "(IZ)I" } : MethodName) ∈ lw_all := lw_w 40 rfl rfl
theorem pv_38 : Cond.selects "JumpHallModel" ({ cls := "JumpHallModel", name := "openIt", desc := "(I)I" } : MethodName) ({ cls := "JumpHallModel", name := "openIt", desc := "(I)I" } : MethodName) ∈ lw_all := lw_w 38 rfl rfl
theorem pv_62 : Cond.selects "JumpHallModel" ({ cls := "JumpHallModel", name := "openMats", desc := "()I" } : MethodName) ({ cls := "JumpHallModel", name := "openMats", desc := "()I" } : MethodName) ∈ lw_all := lw_w 62 rfl rfl
theorem pv_64 : Cond.selects "JumpHallModel" ({ cls := "JumpHallModel", name := "pairs", desc := "(I)I" } : MethodName) ({ cls := "JumpHallModel", name := "pairs", desc := "(I)I" } : MethodName) ∈ lw_all := lw_w 64 rfl rfl
theorem pv_53 : Cond.selects "JumpHallModel" ({ cls := "JumpHallModel", name := "partiesAt", desc := "(I)I" } : MethodName) ({ cls := "JumpHallModel", name := "partiesAt", desc := "(I)I" } : MethodName) ∈ lw_all := lw_w 53 rfl rfl
theorem pv_59 : Cond.selects "JumpHallModel" ({ cls := "JumpHallModel", name := "partyComes", desc := "(I)V" } : MethodName) ({ cls := "JumpHallModel", name := "partyComes", desc := "(I)V" } : MethodName) ∈ lw_all := lw_w 59 rfl rfl
theorem pv_55 : Cond.selects "JumpHallModel" ({ cls := "JumpHallModel", name := "passIt", desc := "(I)I" } : MethodName) ({ cls := "JumpHallModel", name := "passIt", desc := "(I)I" } : MethodName) ∈ lw_all := lw_w 55 rfl rfl
theorem pv_51 : Cond.selects "JumpHallModel" ({ cls := "JumpHallModel", name := "placeIt", desc := "(II)I" } : MethodName) ({ cls := "JumpHallModel", name := "placeIt", desc := "(II)I" } : MethodName) ∈ lw_all := lw_w 51 rfl rfl
theorem pv_65 : Cond.selects "JumpHallModel" ({ cls := "JumpHallModel", name := "readCommand", desc := "()V" } : MethodName) ({ cls := "JumpHallModel", name := "readCommand", desc := "()V" } : MethodName) ∈ lw_all := lw_w 65 rfl rfl
theorem pv_29 : Cond.selects "JumpHallModel" ({ cls := "JumpHallModel", name := "refuse", desc := "(III)I" } : MethodName) ({ cls := "JumpHallModel", name := "refuse", desc := "(III)I" } : MethodName) ∈ lw_all := lw_w 29 rfl rfl
theorem pv_46 : Cond.selects "JumpHallModel" ({ cls := "JumpHallModel", name := "refuseBy", desc := "(IIIII)I" } : MethodName) ({ cls := "JumpHallModel", name := "refuseBy", desc := "(IIIII)I" } : MethodName) ∈ lw_all := lw_w 46 rfl rfl
theorem pv_72 : Cond.selects "JumpHallModel" ({ cls := "JumpHallModel", name := "refusesAll", desc := "(IZ)I" } : MethodName) ({ cls := "JumpHallModel", name := "refusesAll", desc := "(IZ)I" } : MethodName) ∈ lw_all := lw_w 72 rfl rfl
theorem pv_49 : Cond.selects "JumpHallModel" ({ cls := "JumpHallModel", name := "sellIt", desc := "(II)I" } : MethodName) ({ cls := "JumpHallModel", name := "sellIt", desc := "(II)I" } : MethodName) ∈ lw_all := lw_w 49 rfl rfl
theorem pv_60 : Cond.selects "JumpHallModel" ({ cls := "JumpHallModel", name := "sign", desc := "(I)V" } : MethodName) ({ cls := "JumpHallModel", name := "sign", desc := "(I)V" } : MethodName) ∈ lw_all := lw_w 60 rfl rfl
theorem pv_58 : Cond.selects "JumpHallModel" ({ cls := "JumpHallModel", name := "sinks", desc := "(I)I" } : MethodName) ({ cls := "JumpHallModel", name := "sinks", desc := "(I)I" } : MethodName) ∈ lw_all := lw_w 58 rfl rfl
theorem pv_30 : Cond.selects "JumpHallModel" ({ cls := "JumpHallModel", name := "throwing", desc := "(I)I" } : MethodName) ({ cls := "JumpHallModel", name := "throwing", desc := "(I)I" } : MethodName) ∈ lw_all := lw_w 30 rfl rfl
theorem pv_43 : Cond.selects "JumpHallModel" ({ cls := "JumpHallModel", name := "upIt", desc := "(II)I" } : MethodName) ({ cls := "JumpHallModel", name := "upIt", desc := "(II)I" } : MethodName) ∈ lw_all := lw_w 43 rfl rfl
theorem pv_45 : Cond.selects "JumpHallModel" ({ cls := "JumpHallModel", name := "upReason", desc := "(II)I" } : MethodName) ({ cls := "JumpHallModel", name := "upReason", desc := "(II)I" } : MethodName) ∈ lw_all := lw_w 45 rfl rfl
theorem pv_39 : Cond.selects "JumpHallModel" ({ cls := "JumpHallModel", name := "wears", desc := "(I)I" } : MethodName) ({ cls := "JumpHallModel", name := "wears", desc := "(I)I" } : MethodName) ∈ lw_all := lw_w 39 rfl rfl
theorem pv_63 : Cond.selects "JumpHallModel" ({ cls := "JumpHallModel", name := "withSocks", desc := "()I" } : MethodName) ({ cls := "JumpHallModel", name := "withSocks", desc := "()I" } : MethodName) ∈ lw_all := lw_w 63 rfl rfl
theorem pv_66 : Cond.selects "JumpHallModel" ({ cls := "JumpHallModel", name := "wordHere", desc := "()I" } : MethodName) ({ cls := "JumpHallModel", name := "wordHere", desc := "()I" } : MethodName) ∈ lw_all := lw_w 66 rfl rfl
theorem pv_1 : Cond.selects "java/util/ArrayList" ({ cls := "java/util/ArrayList", name := "add", desc := "(Ljava/lang/Object;[Ljava/lang/Object;I)V" } : MethodName) ({ cls := "java/util/ArrayList", name := "add", desc := "(Ljava/lang/Object;[Ljava/lang/Object;I)V" } : MethodName) ∈ lw_all := lw_w 1 rfl rfl
theorem pv_5 : Cond.selects "java/util/ArrayList" ({ cls := "java/util/ArrayList", name := "fastRemove", desc := "([Ljava/lang/Object;I)V" } : MethodName) ({ cls := "java/util/ArrayList", name := "fastRemove", desc := "([Ljava/lang/Object;I)V" } : MethodName) ∈ lw_all := lw_w 5 rfl rfl
theorem pv_2 : Cond.selects "java/util/ArrayList" ({ cls := "java/util/ArrayList", name := "grow", desc := "()[Ljava/lang/Object;" } : MethodName) ({ cls := "java/util/ArrayList", name := "grow", desc := "()[Ljava/lang/Object;" } : MethodName) ∈ lw_all := lw_w 2 rfl rfl
theorem pv_3 : Cond.selects "java/util/ArrayList" ({ cls := "java/util/ArrayList", name := "grow", desc := "(I)[Ljava/lang/Object;" } : MethodName) ({ cls := "java/util/ArrayList", name := "grow", desc := "(I)[Ljava/lang/Object;" } : MethodName) ∈ lw_all := lw_w 3 rfl rfl
