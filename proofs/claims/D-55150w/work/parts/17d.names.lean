set_option maxRecDepth 100000
/-! JumpHallModel -/
def RX4 : String := "JumpHallModel"
abbrev cX4_init : ByteArray := prog_17_method_1_code
def yX4_init : MethodName := ⟨RX4, "<init>", "()V"⟩
def dkwX4_init_14 : List UInt8 := [188, 10, 181, 0, 51, 177]
abbrev dktX4_init_14 : List UInt8 := dkwX4_init_14 ++ []
def dkwX4_init_13 : List UInt8 := [6, 5, 79, 89, 7, 5, 79, 89, 8, 4, 79, 89, 16, 6, 4, 79, 181, 0, 48, 42, 17, 0, 183]
abbrev dktX4_init_13 : List UInt8 := dkwX4_init_13 ++ dktX4_init_14
def dkwX4_init_12 : List UInt8 := [16, 26, 79, 181, 0, 45, 42, 16, 7, 188, 10, 89, 3, 5, 79, 89, 4, 4, 79, 89, 5, 5, 79, 89]
abbrev dktX4_init_12 : List UInt8 := dkwX4_init_12 ++ dktX4_init_13
def dkwX4_init_11 : List UInt8 := [89, 6, 16, 10, 79, 89, 7, 16, 15, 79, 89, 8, 16, 18, 79, 89, 16, 6, 16, 22, 79, 89, 16, 7]
abbrev dktX4_init_11 : List UInt8 := dkwX4_init_11 ++ dktX4_init_12
def dkwX4_init_10 : List UInt8 := [16, 115, 85, 181, 0, 41, 42, 16, 8, 188, 10, 89, 3, 3, 79, 89, 4, 5, 79, 89, 5, 16, 6, 79]
abbrev dktX4_init_10 : List UInt8 := dkwX4_init_10 ++ dktX4_init_11
def dkwX4_init_9 : List UInt8 := [16, 110, 85, 89, 16, 22, 16, 112, 85, 89, 16, 23, 16, 97, 85, 89, 16, 24, 16, 115, 85, 89, 16, 25]
abbrev dktX4_init_9 : List UInt8 := dkwX4_init_9 ++ dktX4_init_10
def dkwX4_init_8 : List UInt8 := [16, 120, 85, 89, 16, 18, 16, 111, 85, 89, 16, 19, 16, 112, 85, 89, 16, 20, 16, 101, 85, 89, 16, 21]
abbrev dktX4_init_8 : List UInt8 := dkwX4_init_8 ++ dktX4_init_9
def dkwX4_init_7 : List UInt8 := [16, 114, 85, 89, 16, 14, 16, 100, 85, 89, 16, 15, 16, 102, 85, 89, 16, 16, 16, 105, 85, 89, 16, 17]
abbrev dktX4_init_7 : List UInt8 := dkwX4_init_7 ++ dktX4_init_8
def dkwX4_init_6 : List UInt8 := [16, 108, 85, 89, 16, 10, 16, 103, 85, 89, 16, 11, 16, 117, 85, 89, 16, 12, 16, 97, 85, 89, 16, 13]
abbrev dktX4_init_6 : List UInt8 := dkwX4_init_6 ++ dktX4_init_7
def dkwX4_init_5 : List UInt8 := [16, 110, 85, 89, 16, 6, 16, 115, 85, 89, 16, 7, 16, 101, 85, 89, 16, 8, 16, 108, 85, 89, 16, 9]
abbrev dktX4_init_5 : List UInt8 := dkwX4_init_5 ++ dktX4_init_6
def dkwX4_init_4 : List UInt8 := [85, 89, 4, 16, 112, 85, 89, 5, 16, 100, 85, 89, 6, 16, 111, 85, 89, 7, 16, 119, 85, 89, 8]
abbrev dktX4_init_4 : List UInt8 := dkwX4_init_4 ++ dktX4_init_5
def dkwX4_init_3 : List UInt8 := [16, 60, 188, 10, 181, 0, 35, 42, 16, 16, 188, 10, 181, 0, 38, 42, 16, 26, 188, 5, 89, 3, 16, 117]
abbrev dktX4_init_3 : List UInt8 := dkwX4_init_3 ++ dktX4_init_4
def dkwX4_init_2 : List UInt8 := [181, 0, 22, 42, 7, 188, 10, 181, 0, 25, 42, 7, 188, 10, 181, 0, 28, 42, 2, 181, 0, 31, 42]
abbrev dktX4_init_2 : List UInt8 := dkwX4_init_2 ++ dktX4_init_3
def dkwX4_init_1 : List UInt8 := [17, 1, 50, 188, 10, 181, 0, 16, 42, 17, 1, 50, 188, 10, 181, 0, 19, 42, 17, 7, 44, 188, 10]
abbrev dktX4_init_1 : List UInt8 := dkwX4_init_1 ++ dktX4_init_2
def dkwX4_init_0 : List UInt8 := [42, 183, 0, 1, 42, 17, 1, 50, 188, 10, 181, 0, 9, 42, 17, 1, 50, 188, 10, 181, 0, 13, 42]
abbrev dktX4_init_0 : List UInt8 := dkwX4_init_0 ++ dktX4_init_1
theorem dksX4_init_0 : cX4_init.data.toList.drop 0 = dktX4_init_0 := by decide +kernel
theorem dksX4_init_1 : cX4_init.data.toList.drop 23 = dktX4_init_1 := dk_seg dksX4_init_0 23 rfl rfl
theorem dksX4_init_2 : cX4_init.data.toList.drop 46 = dktX4_init_2 := dk_seg dksX4_init_1 23 rfl rfl
theorem dksX4_init_3 : cX4_init.data.toList.drop 69 = dktX4_init_3 := dk_seg dksX4_init_2 23 rfl rfl
theorem dksX4_init_4 : cX4_init.data.toList.drop 93 = dktX4_init_4 := dk_seg dksX4_init_3 24 rfl rfl
theorem dksX4_init_5 : cX4_init.data.toList.drop 116 = dktX4_init_5 := dk_seg dksX4_init_4 23 rfl rfl
theorem dksX4_init_6 : cX4_init.data.toList.drop 140 = dktX4_init_6 := dk_seg dksX4_init_5 24 rfl rfl
theorem dksX4_init_7 : cX4_init.data.toList.drop 164 = dktX4_init_7 := dk_seg dksX4_init_6 24 rfl rfl
theorem dksX4_init_8 : cX4_init.data.toList.drop 188 = dktX4_init_8 := dk_seg dksX4_init_7 24 rfl rfl
theorem dksX4_init_9 : cX4_init.data.toList.drop 212 = dktX4_init_9 := dk_seg dksX4_init_8 24 rfl rfl
theorem dksX4_init_10 : cX4_init.data.toList.drop 236 = dktX4_init_10 := dk_seg dksX4_init_9 24 rfl rfl
theorem dksX4_init_11 : cX4_init.data.toList.drop 260 = dktX4_init_11 := dk_seg dksX4_init_10 24 rfl rfl
theorem dksX4_init_12 : cX4_init.data.toList.drop 284 = dktX4_init_12 := dk_seg dksX4_init_11 24 rfl rfl
theorem dksX4_init_13 : cX4_init.data.toList.drop 308 = dktX4_init_13 := dk_seg dksX4_init_12 24 rfl rfl
theorem dksX4_init_14 : cX4_init.data.toList.drop 331 = dktX4_init_14 := dk_seg dksX4_init_13 23 rfl rfl
theorem dX4_init_0 : decode cX4_init 0 = .ok (.aload_n 0, 1) := dk_42 (dk_at dksX4_init_0 0 rfl rfl)
theorem dX4_init_1 : decode cX4_init 1 = .ok (.invokespecial 1, 3) := dk_183 0 1 (dk_at dksX4_init_0 1 rfl rfl)
theorem dX4_init_4 : decode cX4_init 4 = .ok (.aload_n 0, 1) := dk_42 (dk_at dksX4_init_0 4 rfl rfl)
theorem dX4_init_5 : decode cX4_init 5 = .ok (.sipush 306, 3) := dk_17 1 50 (dk_at dksX4_init_0 5 rfl rfl)
theorem dX4_init_8 : decode cX4_init 8 = .ok (.newarray .int, 2) := dk_188_10 (dk_at dksX4_init_0 8 rfl rfl)
theorem dX4_init_10 : decode cX4_init 10 = .ok (.putfield 9, 3) := dk_181 0 9 (dk_at dksX4_init_0 10 rfl rfl)
theorem dX4_init_13 : decode cX4_init 13 = .ok (.aload_n 0, 1) := dk_42 (dk_at dksX4_init_0 13 rfl rfl)
theorem dX4_init_14 : decode cX4_init 14 = .ok (.sipush 306, 3) := dk_17 1 50 (dk_at dksX4_init_0 14 rfl rfl)
theorem dX4_init_17 : decode cX4_init 17 = .ok (.newarray .int, 2) := dk_188_10 (dk_at dksX4_init_0 17 rfl rfl)
theorem dX4_init_19 : decode cX4_init 19 = .ok (.putfield 13, 3) := dk_181 0 13 (dk_at dksX4_init_0 19 rfl rfl)
theorem dX4_init_22 : decode cX4_init 22 = .ok (.aload_n 0, 1) := dk_42 (dk_at dksX4_init_0 22 rfl rfl)
theorem dX4_init_23 : decode cX4_init 23 = .ok (.sipush 306, 3) := dk_17 1 50 (dk_at dksX4_init_1 0 rfl rfl)
theorem dX4_init_26 : decode cX4_init 26 = .ok (.newarray .int, 2) := dk_188_10 (dk_at dksX4_init_1 3 rfl rfl)
theorem dX4_init_28 : decode cX4_init 28 = .ok (.putfield 16, 3) := dk_181 0 16 (dk_at dksX4_init_1 5 rfl rfl)
theorem dX4_init_31 : decode cX4_init 31 = .ok (.aload_n 0, 1) := dk_42 (dk_at dksX4_init_1 8 rfl rfl)
theorem dX4_init_32 : decode cX4_init 32 = .ok (.sipush 306, 3) := dk_17 1 50 (dk_at dksX4_init_1 9 rfl rfl)
theorem dX4_init_35 : decode cX4_init 35 = .ok (.newarray .int, 2) := dk_188_10 (dk_at dksX4_init_1 12 rfl rfl)
theorem dX4_init_37 : decode cX4_init 37 = .ok (.putfield 19, 3) := dk_181 0 19 (dk_at dksX4_init_1 14 rfl rfl)
theorem dX4_init_40 : decode cX4_init 40 = .ok (.aload_n 0, 1) := dk_42 (dk_at dksX4_init_1 17 rfl rfl)
theorem dX4_init_41 : decode cX4_init 41 = .ok (.sipush 1836, 3) := dk_17 7 44 (dk_at dksX4_init_1 18 rfl rfl)
theorem dX4_init_44 : decode cX4_init 44 = .ok (.newarray .int, 2) := dk_188_10 (dk_at dksX4_init_1 21 rfl rfl)
theorem dX4_init_46 : decode cX4_init 46 = .ok (.putfield 22, 3) := dk_181 0 22 (dk_at dksX4_init_2 0 rfl rfl)
theorem dX4_init_49 : decode cX4_init 49 = .ok (.aload_n 0, 1) := dk_42 (dk_at dksX4_init_2 3 rfl rfl)
theorem dX4_init_50 : decode cX4_init 50 = .ok (.iconst 4, 1) := dk_7 (dk_at dksX4_init_2 4 rfl rfl)
theorem dX4_init_51 : decode cX4_init 51 = .ok (.newarray .int, 2) := dk_188_10 (dk_at dksX4_init_2 5 rfl rfl)
theorem dX4_init_53 : decode cX4_init 53 = .ok (.putfield 25, 3) := dk_181 0 25 (dk_at dksX4_init_2 7 rfl rfl)
theorem dX4_init_56 : decode cX4_init 56 = .ok (.aload_n 0, 1) := dk_42 (dk_at dksX4_init_2 10 rfl rfl)
theorem dX4_init_57 : decode cX4_init 57 = .ok (.iconst 4, 1) := dk_7 (dk_at dksX4_init_2 11 rfl rfl)
theorem dX4_init_58 : decode cX4_init 58 = .ok (.newarray .int, 2) := dk_188_10 (dk_at dksX4_init_2 12 rfl rfl)
theorem dX4_init_60 : decode cX4_init 60 = .ok (.putfield 28, 3) := dk_181 0 28 (dk_at dksX4_init_2 14 rfl rfl)
theorem dX4_init_63 : decode cX4_init 63 = .ok (.aload_n 0, 1) := dk_42 (dk_at dksX4_init_2 17 rfl rfl)
theorem dX4_init_64 : decode cX4_init 64 = .ok (.iconst (-1), 1) := dk_2 (dk_at dksX4_init_2 18 rfl rfl)
theorem dX4_init_65 : decode cX4_init 65 = .ok (.putfield 31, 3) := dk_181 0 31 (dk_at dksX4_init_2 19 rfl rfl)
theorem dX4_init_68 : decode cX4_init 68 = .ok (.aload_n 0, 1) := dk_42 (dk_at dksX4_init_2 22 rfl rfl)
theorem dX4_init_69 : decode cX4_init 69 = .ok (.bipush 60, 2) := dk_16 60 (dk_at dksX4_init_3 0 rfl rfl)
theorem dX4_init_71 : decode cX4_init 71 = .ok (.newarray .int, 2) := dk_188_10 (dk_at dksX4_init_3 2 rfl rfl)
theorem dX4_init_73 : decode cX4_init 73 = .ok (.putfield 35, 3) := dk_181 0 35 (dk_at dksX4_init_3 4 rfl rfl)
theorem dX4_init_76 : decode cX4_init 76 = .ok (.aload_n 0, 1) := dk_42 (dk_at dksX4_init_3 7 rfl rfl)
theorem dX4_init_77 : decode cX4_init 77 = .ok (.bipush 16, 2) := dk_16 16 (dk_at dksX4_init_3 8 rfl rfl)
theorem dX4_init_79 : decode cX4_init 79 = .ok (.newarray .int, 2) := dk_188_10 (dk_at dksX4_init_3 10 rfl rfl)
theorem dX4_init_81 : decode cX4_init 81 = .ok (.putfield 38, 3) := dk_181 0 38 (dk_at dksX4_init_3 12 rfl rfl)
theorem dX4_init_84 : decode cX4_init 84 = .ok (.aload_n 0, 1) := dk_42 (dk_at dksX4_init_3 15 rfl rfl)
theorem dX4_init_85 : decode cX4_init 85 = .ok (.bipush 26, 2) := dk_16 26 (dk_at dksX4_init_3 16 rfl rfl)
theorem dX4_init_87 : decode cX4_init 87 = .ok (.newarray .char, 2) := dk_188_5 (dk_at dksX4_init_3 18 rfl rfl)
theorem dX4_init_89 : decode cX4_init 89 = .ok (.dup, 1) := dk_89 (dk_at dksX4_init_3 20 rfl rfl)
theorem dX4_init_90 : decode cX4_init 90 = .ok (.iconst 0, 1) := dk_3 (dk_at dksX4_init_3 21 rfl rfl)
theorem dX4_init_91 : decode cX4_init 91 = .ok (.bipush 117, 2) := dk_16 117 (dk_at dksX4_init_3 22 rfl rfl)
theorem dX4_init_93 : decode cX4_init 93 = .ok (.castore, 1) := dk_85 (dk_at dksX4_init_4 0 rfl rfl)
theorem dX4_init_94 : decode cX4_init 94 = .ok (.dup, 1) := dk_89 (dk_at dksX4_init_4 1 rfl rfl)
theorem dX4_init_95 : decode cX4_init 95 = .ok (.iconst 1, 1) := dk_4 (dk_at dksX4_init_4 2 rfl rfl)
theorem dX4_init_96 : decode cX4_init 96 = .ok (.bipush 112, 2) := dk_16 112 (dk_at dksX4_init_4 3 rfl rfl)
theorem dX4_init_98 : decode cX4_init 98 = .ok (.castore, 1) := dk_85 (dk_at dksX4_init_4 5 rfl rfl)
theorem dX4_init_99 : decode cX4_init 99 = .ok (.dup, 1) := dk_89 (dk_at dksX4_init_4 6 rfl rfl)
theorem dX4_init_100 : decode cX4_init 100 = .ok (.iconst 2, 1) := dk_5 (dk_at dksX4_init_4 7 rfl rfl)
theorem dX4_init_101 : decode cX4_init 101 = .ok (.bipush 100, 2) := dk_16 100 (dk_at dksX4_init_4 8 rfl rfl)
theorem dX4_init_103 : decode cX4_init 103 = .ok (.castore, 1) := dk_85 (dk_at dksX4_init_4 10 rfl rfl)
theorem dX4_init_104 : decode cX4_init 104 = .ok (.dup, 1) := dk_89 (dk_at dksX4_init_4 11 rfl rfl)
theorem dX4_init_105 : decode cX4_init 105 = .ok (.iconst 3, 1) := dk_6 (dk_at dksX4_init_4 12 rfl rfl)
theorem dX4_init_106 : decode cX4_init 106 = .ok (.bipush 111, 2) := dk_16 111 (dk_at dksX4_init_4 13 rfl rfl)
theorem dX4_init_108 : decode cX4_init 108 = .ok (.castore, 1) := dk_85 (dk_at dksX4_init_4 15 rfl rfl)
theorem dX4_init_109 : decode cX4_init 109 = .ok (.dup, 1) := dk_89 (dk_at dksX4_init_4 16 rfl rfl)
theorem dX4_init_110 : decode cX4_init 110 = .ok (.iconst 4, 1) := dk_7 (dk_at dksX4_init_4 17 rfl rfl)
theorem dX4_init_111 : decode cX4_init 111 = .ok (.bipush 119, 2) := dk_16 119 (dk_at dksX4_init_4 18 rfl rfl)
theorem dX4_init_113 : decode cX4_init 113 = .ok (.castore, 1) := dk_85 (dk_at dksX4_init_4 20 rfl rfl)
theorem dX4_init_114 : decode cX4_init 114 = .ok (.dup, 1) := dk_89 (dk_at dksX4_init_4 21 rfl rfl)
theorem dX4_init_115 : decode cX4_init 115 = .ok (.iconst 5, 1) := dk_8 (dk_at dksX4_init_4 22 rfl rfl)
theorem dX4_init_116 : decode cX4_init 116 = .ok (.bipush 110, 2) := dk_16 110 (dk_at dksX4_init_5 0 rfl rfl)
theorem dX4_init_118 : decode cX4_init 118 = .ok (.castore, 1) := dk_85 (dk_at dksX4_init_5 2 rfl rfl)
theorem dX4_init_119 : decode cX4_init 119 = .ok (.dup, 1) := dk_89 (dk_at dksX4_init_5 3 rfl rfl)
theorem dX4_init_120 : decode cX4_init 120 = .ok (.bipush 6, 2) := dk_16 6 (dk_at dksX4_init_5 4 rfl rfl)
theorem dX4_init_122 : decode cX4_init 122 = .ok (.bipush 115, 2) := dk_16 115 (dk_at dksX4_init_5 6 rfl rfl)
theorem dX4_init_124 : decode cX4_init 124 = .ok (.castore, 1) := dk_85 (dk_at dksX4_init_5 8 rfl rfl)
theorem dX4_init_125 : decode cX4_init 125 = .ok (.dup, 1) := dk_89 (dk_at dksX4_init_5 9 rfl rfl)
theorem dX4_init_126 : decode cX4_init 126 = .ok (.bipush 7, 2) := dk_16 7 (dk_at dksX4_init_5 10 rfl rfl)
theorem dX4_init_128 : decode cX4_init 128 = .ok (.bipush 101, 2) := dk_16 101 (dk_at dksX4_init_5 12 rfl rfl)
theorem dX4_init_130 : decode cX4_init 130 = .ok (.castore, 1) := dk_85 (dk_at dksX4_init_5 14 rfl rfl)
theorem dX4_init_131 : decode cX4_init 131 = .ok (.dup, 1) := dk_89 (dk_at dksX4_init_5 15 rfl rfl)
theorem dX4_init_132 : decode cX4_init 132 = .ok (.bipush 8, 2) := dk_16 8 (dk_at dksX4_init_5 16 rfl rfl)
theorem dX4_init_134 : decode cX4_init 134 = .ok (.bipush 108, 2) := dk_16 108 (dk_at dksX4_init_5 18 rfl rfl)
theorem dX4_init_136 : decode cX4_init 136 = .ok (.castore, 1) := dk_85 (dk_at dksX4_init_5 20 rfl rfl)
theorem dX4_init_137 : decode cX4_init 137 = .ok (.dup, 1) := dk_89 (dk_at dksX4_init_5 21 rfl rfl)
theorem dX4_init_138 : decode cX4_init 138 = .ok (.bipush 9, 2) := dk_16 9 (dk_at dksX4_init_5 22 rfl rfl)
theorem dX4_init_140 : decode cX4_init 140 = .ok (.bipush 108, 2) := dk_16 108 (dk_at dksX4_init_6 0 rfl rfl)
theorem dX4_init_142 : decode cX4_init 142 = .ok (.castore, 1) := dk_85 (dk_at dksX4_init_6 2 rfl rfl)
theorem dX4_init_143 : decode cX4_init 143 = .ok (.dup, 1) := dk_89 (dk_at dksX4_init_6 3 rfl rfl)
theorem dX4_init_144 : decode cX4_init 144 = .ok (.bipush 10, 2) := dk_16 10 (dk_at dksX4_init_6 4 rfl rfl)
theorem dX4_init_146 : decode cX4_init 146 = .ok (.bipush 103, 2) := dk_16 103 (dk_at dksX4_init_6 6 rfl rfl)
theorem dX4_init_148 : decode cX4_init 148 = .ok (.castore, 1) := dk_85 (dk_at dksX4_init_6 8 rfl rfl)
theorem dX4_init_149 : decode cX4_init 149 = .ok (.dup, 1) := dk_89 (dk_at dksX4_init_6 9 rfl rfl)
theorem dX4_init_150 : decode cX4_init 150 = .ok (.bipush 11, 2) := dk_16 11 (dk_at dksX4_init_6 10 rfl rfl)
theorem dX4_init_152 : decode cX4_init 152 = .ok (.bipush 117, 2) := dk_16 117 (dk_at dksX4_init_6 12 rfl rfl)
theorem dX4_init_154 : decode cX4_init 154 = .ok (.castore, 1) := dk_85 (dk_at dksX4_init_6 14 rfl rfl)
theorem dX4_init_155 : decode cX4_init 155 = .ok (.dup, 1) := dk_89 (dk_at dksX4_init_6 15 rfl rfl)
theorem dX4_init_156 : decode cX4_init 156 = .ok (.bipush 12, 2) := dk_16 12 (dk_at dksX4_init_6 16 rfl rfl)
theorem dX4_init_158 : decode cX4_init 158 = .ok (.bipush 97, 2) := dk_16 97 (dk_at dksX4_init_6 18 rfl rfl)
theorem dX4_init_160 : decode cX4_init 160 = .ok (.castore, 1) := dk_85 (dk_at dksX4_init_6 20 rfl rfl)
theorem dX4_init_161 : decode cX4_init 161 = .ok (.dup, 1) := dk_89 (dk_at dksX4_init_6 21 rfl rfl)
theorem dX4_init_162 : decode cX4_init 162 = .ok (.bipush 13, 2) := dk_16 13 (dk_at dksX4_init_6 22 rfl rfl)
theorem dX4_init_164 : decode cX4_init 164 = .ok (.bipush 114, 2) := dk_16 114 (dk_at dksX4_init_7 0 rfl rfl)
theorem dX4_init_166 : decode cX4_init 166 = .ok (.castore, 1) := dk_85 (dk_at dksX4_init_7 2 rfl rfl)
theorem dX4_init_167 : decode cX4_init 167 = .ok (.dup, 1) := dk_89 (dk_at dksX4_init_7 3 rfl rfl)
theorem dX4_init_168 : decode cX4_init 168 = .ok (.bipush 14, 2) := dk_16 14 (dk_at dksX4_init_7 4 rfl rfl)
theorem dX4_init_170 : decode cX4_init 170 = .ok (.bipush 100, 2) := dk_16 100 (dk_at dksX4_init_7 6 rfl rfl)
theorem dX4_init_172 : decode cX4_init 172 = .ok (.castore, 1) := dk_85 (dk_at dksX4_init_7 8 rfl rfl)
theorem dX4_init_173 : decode cX4_init 173 = .ok (.dup, 1) := dk_89 (dk_at dksX4_init_7 9 rfl rfl)
theorem dX4_init_174 : decode cX4_init 174 = .ok (.bipush 15, 2) := dk_16 15 (dk_at dksX4_init_7 10 rfl rfl)
theorem dX4_init_176 : decode cX4_init 176 = .ok (.bipush 102, 2) := dk_16 102 (dk_at dksX4_init_7 12 rfl rfl)
theorem dX4_init_178 : decode cX4_init 178 = .ok (.castore, 1) := dk_85 (dk_at dksX4_init_7 14 rfl rfl)
theorem dX4_init_179 : decode cX4_init 179 = .ok (.dup, 1) := dk_89 (dk_at dksX4_init_7 15 rfl rfl)
theorem dX4_init_180 : decode cX4_init 180 = .ok (.bipush 16, 2) := dk_16 16 (dk_at dksX4_init_7 16 rfl rfl)
theorem dX4_init_182 : decode cX4_init 182 = .ok (.bipush 105, 2) := dk_16 105 (dk_at dksX4_init_7 18 rfl rfl)
theorem dX4_init_184 : decode cX4_init 184 = .ok (.castore, 1) := dk_85 (dk_at dksX4_init_7 20 rfl rfl)
theorem dX4_init_185 : decode cX4_init 185 = .ok (.dup, 1) := dk_89 (dk_at dksX4_init_7 21 rfl rfl)
theorem dX4_init_186 : decode cX4_init 186 = .ok (.bipush 17, 2) := dk_16 17 (dk_at dksX4_init_7 22 rfl rfl)
theorem dX4_init_188 : decode cX4_init 188 = .ok (.bipush 120, 2) := dk_16 120 (dk_at dksX4_init_8 0 rfl rfl)
theorem dX4_init_190 : decode cX4_init 190 = .ok (.castore, 1) := dk_85 (dk_at dksX4_init_8 2 rfl rfl)
theorem dX4_init_191 : decode cX4_init 191 = .ok (.dup, 1) := dk_89 (dk_at dksX4_init_8 3 rfl rfl)
theorem dX4_init_192 : decode cX4_init 192 = .ok (.bipush 18, 2) := dk_16 18 (dk_at dksX4_init_8 4 rfl rfl)
theorem dX4_init_194 : decode cX4_init 194 = .ok (.bipush 111, 2) := dk_16 111 (dk_at dksX4_init_8 6 rfl rfl)
theorem dX4_init_196 : decode cX4_init 196 = .ok (.castore, 1) := dk_85 (dk_at dksX4_init_8 8 rfl rfl)
theorem dX4_init_197 : decode cX4_init 197 = .ok (.dup, 1) := dk_89 (dk_at dksX4_init_8 9 rfl rfl)
theorem dX4_init_198 : decode cX4_init 198 = .ok (.bipush 19, 2) := dk_16 19 (dk_at dksX4_init_8 10 rfl rfl)
theorem dX4_init_200 : decode cX4_init 200 = .ok (.bipush 112, 2) := dk_16 112 (dk_at dksX4_init_8 12 rfl rfl)
theorem dX4_init_202 : decode cX4_init 202 = .ok (.castore, 1) := dk_85 (dk_at dksX4_init_8 14 rfl rfl)
theorem dX4_init_203 : decode cX4_init 203 = .ok (.dup, 1) := dk_89 (dk_at dksX4_init_8 15 rfl rfl)
theorem dX4_init_204 : decode cX4_init 204 = .ok (.bipush 20, 2) := dk_16 20 (dk_at dksX4_init_8 16 rfl rfl)
theorem dX4_init_206 : decode cX4_init 206 = .ok (.bipush 101, 2) := dk_16 101 (dk_at dksX4_init_8 18 rfl rfl)
theorem dX4_init_208 : decode cX4_init 208 = .ok (.castore, 1) := dk_85 (dk_at dksX4_init_8 20 rfl rfl)
theorem dX4_init_209 : decode cX4_init 209 = .ok (.dup, 1) := dk_89 (dk_at dksX4_init_8 21 rfl rfl)
theorem dX4_init_210 : decode cX4_init 210 = .ok (.bipush 21, 2) := dk_16 21 (dk_at dksX4_init_8 22 rfl rfl)
theorem dX4_init_212 : decode cX4_init 212 = .ok (.bipush 110, 2) := dk_16 110 (dk_at dksX4_init_9 0 rfl rfl)
theorem dX4_init_214 : decode cX4_init 214 = .ok (.castore, 1) := dk_85 (dk_at dksX4_init_9 2 rfl rfl)
theorem dX4_init_215 : decode cX4_init 215 = .ok (.dup, 1) := dk_89 (dk_at dksX4_init_9 3 rfl rfl)
theorem dX4_init_216 : decode cX4_init 216 = .ok (.bipush 22, 2) := dk_16 22 (dk_at dksX4_init_9 4 rfl rfl)
theorem dX4_init_218 : decode cX4_init 218 = .ok (.bipush 112, 2) := dk_16 112 (dk_at dksX4_init_9 6 rfl rfl)
theorem dX4_init_220 : decode cX4_init 220 = .ok (.castore, 1) := dk_85 (dk_at dksX4_init_9 8 rfl rfl)
theorem dX4_init_221 : decode cX4_init 221 = .ok (.dup, 1) := dk_89 (dk_at dksX4_init_9 9 rfl rfl)
theorem dX4_init_222 : decode cX4_init 222 = .ok (.bipush 23, 2) := dk_16 23 (dk_at dksX4_init_9 10 rfl rfl)
theorem dX4_init_224 : decode cX4_init 224 = .ok (.bipush 97, 2) := dk_16 97 (dk_at dksX4_init_9 12 rfl rfl)
theorem dX4_init_226 : decode cX4_init 226 = .ok (.castore, 1) := dk_85 (dk_at dksX4_init_9 14 rfl rfl)
theorem dX4_init_227 : decode cX4_init 227 = .ok (.dup, 1) := dk_89 (dk_at dksX4_init_9 15 rfl rfl)
theorem dX4_init_228 : decode cX4_init 228 = .ok (.bipush 24, 2) := dk_16 24 (dk_at dksX4_init_9 16 rfl rfl)
theorem dX4_init_230 : decode cX4_init 230 = .ok (.bipush 115, 2) := dk_16 115 (dk_at dksX4_init_9 18 rfl rfl)
theorem dX4_init_232 : decode cX4_init 232 = .ok (.castore, 1) := dk_85 (dk_at dksX4_init_9 20 rfl rfl)
theorem dX4_init_233 : decode cX4_init 233 = .ok (.dup, 1) := dk_89 (dk_at dksX4_init_9 21 rfl rfl)
theorem dX4_init_234 : decode cX4_init 234 = .ok (.bipush 25, 2) := dk_16 25 (dk_at dksX4_init_9 22 rfl rfl)
theorem dX4_init_236 : decode cX4_init 236 = .ok (.bipush 115, 2) := dk_16 115 (dk_at dksX4_init_10 0 rfl rfl)
theorem dX4_init_238 : decode cX4_init 238 = .ok (.castore, 1) := dk_85 (dk_at dksX4_init_10 2 rfl rfl)
theorem dX4_init_239 : decode cX4_init 239 = .ok (.putfield 41, 3) := dk_181 0 41 (dk_at dksX4_init_10 3 rfl rfl)
theorem dX4_init_242 : decode cX4_init 242 = .ok (.aload_n 0, 1) := dk_42 (dk_at dksX4_init_10 6 rfl rfl)
theorem dX4_init_243 : decode cX4_init 243 = .ok (.bipush 8, 2) := dk_16 8 (dk_at dksX4_init_10 7 rfl rfl)
theorem dX4_init_245 : decode cX4_init 245 = .ok (.newarray .int, 2) := dk_188_10 (dk_at dksX4_init_10 9 rfl rfl)
theorem dX4_init_247 : decode cX4_init 247 = .ok (.dup, 1) := dk_89 (dk_at dksX4_init_10 11 rfl rfl)
theorem dX4_init_248 : decode cX4_init 248 = .ok (.iconst 0, 1) := dk_3 (dk_at dksX4_init_10 12 rfl rfl)
theorem dX4_init_249 : decode cX4_init 249 = .ok (.iconst 0, 1) := dk_3 (dk_at dksX4_init_10 13 rfl rfl)
theorem dX4_init_250 : decode cX4_init 250 = .ok (.iastore, 1) := dk_79 (dk_at dksX4_init_10 14 rfl rfl)
theorem dX4_init_251 : decode cX4_init 251 = .ok (.dup, 1) := dk_89 (dk_at dksX4_init_10 15 rfl rfl)
theorem dX4_init_252 : decode cX4_init 252 = .ok (.iconst 1, 1) := dk_4 (dk_at dksX4_init_10 16 rfl rfl)
theorem dX4_init_253 : decode cX4_init 253 = .ok (.iconst 2, 1) := dk_5 (dk_at dksX4_init_10 17 rfl rfl)
theorem dX4_init_254 : decode cX4_init 254 = .ok (.iastore, 1) := dk_79 (dk_at dksX4_init_10 18 rfl rfl)
theorem dX4_init_255 : decode cX4_init 255 = .ok (.dup, 1) := dk_89 (dk_at dksX4_init_10 19 rfl rfl)
theorem dX4_init_256 : decode cX4_init 256 = .ok (.iconst 2, 1) := dk_5 (dk_at dksX4_init_10 20 rfl rfl)
theorem dX4_init_257 : decode cX4_init 257 = .ok (.bipush 6, 2) := dk_16 6 (dk_at dksX4_init_10 21 rfl rfl)
theorem dX4_init_259 : decode cX4_init 259 = .ok (.iastore, 1) := dk_79 (dk_at dksX4_init_10 23 rfl rfl)
theorem dX4_init_260 : decode cX4_init 260 = .ok (.dup, 1) := dk_89 (dk_at dksX4_init_11 0 rfl rfl)
theorem dX4_init_261 : decode cX4_init 261 = .ok (.iconst 3, 1) := dk_6 (dk_at dksX4_init_11 1 rfl rfl)
theorem dX4_init_262 : decode cX4_init 262 = .ok (.bipush 10, 2) := dk_16 10 (dk_at dksX4_init_11 2 rfl rfl)
theorem dX4_init_264 : decode cX4_init 264 = .ok (.iastore, 1) := dk_79 (dk_at dksX4_init_11 4 rfl rfl)
theorem dX4_init_265 : decode cX4_init 265 = .ok (.dup, 1) := dk_89 (dk_at dksX4_init_11 5 rfl rfl)
theorem dX4_init_266 : decode cX4_init 266 = .ok (.iconst 4, 1) := dk_7 (dk_at dksX4_init_11 6 rfl rfl)
theorem dX4_init_267 : decode cX4_init 267 = .ok (.bipush 15, 2) := dk_16 15 (dk_at dksX4_init_11 7 rfl rfl)
theorem dX4_init_269 : decode cX4_init 269 = .ok (.iastore, 1) := dk_79 (dk_at dksX4_init_11 9 rfl rfl)
theorem dX4_init_270 : decode cX4_init 270 = .ok (.dup, 1) := dk_89 (dk_at dksX4_init_11 10 rfl rfl)
theorem dX4_init_271 : decode cX4_init 271 = .ok (.iconst 5, 1) := dk_8 (dk_at dksX4_init_11 11 rfl rfl)
theorem dX4_init_272 : decode cX4_init 272 = .ok (.bipush 18, 2) := dk_16 18 (dk_at dksX4_init_11 12 rfl rfl)
theorem dX4_init_274 : decode cX4_init 274 = .ok (.iastore, 1) := dk_79 (dk_at dksX4_init_11 14 rfl rfl)
theorem dX4_init_275 : decode cX4_init 275 = .ok (.dup, 1) := dk_89 (dk_at dksX4_init_11 15 rfl rfl)
theorem dX4_init_276 : decode cX4_init 276 = .ok (.bipush 6, 2) := dk_16 6 (dk_at dksX4_init_11 16 rfl rfl)
theorem dX4_init_278 : decode cX4_init 278 = .ok (.bipush 22, 2) := dk_16 22 (dk_at dksX4_init_11 18 rfl rfl)
theorem dX4_init_280 : decode cX4_init 280 = .ok (.iastore, 1) := dk_79 (dk_at dksX4_init_11 20 rfl rfl)
theorem dX4_init_281 : decode cX4_init 281 = .ok (.dup, 1) := dk_89 (dk_at dksX4_init_11 21 rfl rfl)
theorem dX4_init_282 : decode cX4_init 282 = .ok (.bipush 7, 2) := dk_16 7 (dk_at dksX4_init_11 22 rfl rfl)
theorem dX4_init_284 : decode cX4_init 284 = .ok (.bipush 26, 2) := dk_16 26 (dk_at dksX4_init_12 0 rfl rfl)
theorem dX4_init_286 : decode cX4_init 286 = .ok (.iastore, 1) := dk_79 (dk_at dksX4_init_12 2 rfl rfl)
theorem dX4_init_287 : decode cX4_init 287 = .ok (.putfield 45, 3) := dk_181 0 45 (dk_at dksX4_init_12 3 rfl rfl)
theorem dX4_init_290 : decode cX4_init 290 = .ok (.aload_n 0, 1) := dk_42 (dk_at dksX4_init_12 6 rfl rfl)
theorem dX4_init_291 : decode cX4_init 291 = .ok (.bipush 7, 2) := dk_16 7 (dk_at dksX4_init_12 7 rfl rfl)
theorem dX4_init_293 : decode cX4_init 293 = .ok (.newarray .int, 2) := dk_188_10 (dk_at dksX4_init_12 9 rfl rfl)
theorem dX4_init_295 : decode cX4_init 295 = .ok (.dup, 1) := dk_89 (dk_at dksX4_init_12 11 rfl rfl)
theorem dX4_init_296 : decode cX4_init 296 = .ok (.iconst 0, 1) := dk_3 (dk_at dksX4_init_12 12 rfl rfl)
theorem dX4_init_297 : decode cX4_init 297 = .ok (.iconst 2, 1) := dk_5 (dk_at dksX4_init_12 13 rfl rfl)
theorem dX4_init_298 : decode cX4_init 298 = .ok (.iastore, 1) := dk_79 (dk_at dksX4_init_12 14 rfl rfl)
theorem dX4_init_299 : decode cX4_init 299 = .ok (.dup, 1) := dk_89 (dk_at dksX4_init_12 15 rfl rfl)
theorem dX4_init_300 : decode cX4_init 300 = .ok (.iconst 1, 1) := dk_4 (dk_at dksX4_init_12 16 rfl rfl)
theorem dX4_init_301 : decode cX4_init 301 = .ok (.iconst 1, 1) := dk_4 (dk_at dksX4_init_12 17 rfl rfl)
theorem dX4_init_302 : decode cX4_init 302 = .ok (.iastore, 1) := dk_79 (dk_at dksX4_init_12 18 rfl rfl)
theorem dX4_init_303 : decode cX4_init 303 = .ok (.dup, 1) := dk_89 (dk_at dksX4_init_12 19 rfl rfl)
theorem dX4_init_304 : decode cX4_init 304 = .ok (.iconst 2, 1) := dk_5 (dk_at dksX4_init_12 20 rfl rfl)
theorem dX4_init_305 : decode cX4_init 305 = .ok (.iconst 2, 1) := dk_5 (dk_at dksX4_init_12 21 rfl rfl)
theorem dX4_init_306 : decode cX4_init 306 = .ok (.iastore, 1) := dk_79 (dk_at dksX4_init_12 22 rfl rfl)
theorem dX4_init_307 : decode cX4_init 307 = .ok (.dup, 1) := dk_89 (dk_at dksX4_init_12 23 rfl rfl)
theorem dX4_init_308 : decode cX4_init 308 = .ok (.iconst 3, 1) := dk_6 (dk_at dksX4_init_13 0 rfl rfl)
theorem dX4_init_309 : decode cX4_init 309 = .ok (.iconst 2, 1) := dk_5 (dk_at dksX4_init_13 1 rfl rfl)
theorem dX4_init_310 : decode cX4_init 310 = .ok (.iastore, 1) := dk_79 (dk_at dksX4_init_13 2 rfl rfl)
theorem dX4_init_311 : decode cX4_init 311 = .ok (.dup, 1) := dk_89 (dk_at dksX4_init_13 3 rfl rfl)
theorem dX4_init_312 : decode cX4_init 312 = .ok (.iconst 4, 1) := dk_7 (dk_at dksX4_init_13 4 rfl rfl)
theorem dX4_init_313 : decode cX4_init 313 = .ok (.iconst 2, 1) := dk_5 (dk_at dksX4_init_13 5 rfl rfl)
theorem dX4_init_314 : decode cX4_init 314 = .ok (.iastore, 1) := dk_79 (dk_at dksX4_init_13 6 rfl rfl)
theorem dX4_init_315 : decode cX4_init 315 = .ok (.dup, 1) := dk_89 (dk_at dksX4_init_13 7 rfl rfl)
theorem dX4_init_316 : decode cX4_init 316 = .ok (.iconst 5, 1) := dk_8 (dk_at dksX4_init_13 8 rfl rfl)
theorem dX4_init_317 : decode cX4_init 317 = .ok (.iconst 1, 1) := dk_4 (dk_at dksX4_init_13 9 rfl rfl)
theorem dX4_init_318 : decode cX4_init 318 = .ok (.iastore, 1) := dk_79 (dk_at dksX4_init_13 10 rfl rfl)
theorem dX4_init_319 : decode cX4_init 319 = .ok (.dup, 1) := dk_89 (dk_at dksX4_init_13 11 rfl rfl)
theorem dX4_init_320 : decode cX4_init 320 = .ok (.bipush 6, 2) := dk_16 6 (dk_at dksX4_init_13 12 rfl rfl)
theorem dX4_init_322 : decode cX4_init 322 = .ok (.iconst 1, 1) := dk_4 (dk_at dksX4_init_13 14 rfl rfl)
theorem dX4_init_323 : decode cX4_init 323 = .ok (.iastore, 1) := dk_79 (dk_at dksX4_init_13 15 rfl rfl)
theorem dX4_init_324 : decode cX4_init 324 = .ok (.putfield 48, 3) := dk_181 0 48 (dk_at dksX4_init_13 16 rfl rfl)
theorem dX4_init_327 : decode cX4_init 327 = .ok (.aload_n 0, 1) := dk_42 (dk_at dksX4_init_13 19 rfl rfl)
theorem dX4_init_328 : decode cX4_init 328 = .ok (.sipush 183, 3) := dk_17 0 183 (dk_at dksX4_init_13 20 rfl rfl)
theorem dX4_init_331 : decode cX4_init 331 = .ok (.newarray .int, 2) := dk_188_10 (dk_at dksX4_init_14 0 rfl rfl)
theorem dX4_init_333 : decode cX4_init 333 = .ok (.putfield 51, 3) := dk_181 0 51 (dk_at dksX4_init_14 2 rfl rfl)
theorem dX4_init_336 : decode cX4_init 336 = .ok (.return_, 1) := dk_177 (dk_at dksX4_init_14 5 rfl rfl)
abbrev cX4_thrown : ByteArray := prog_17_method_2_code
def yX4_thrown : MethodName := ⟨RX4, "thrown", "()I"⟩
theorem dX4_thrown_0 : decode cX4_thrown 0 = .ok (.aload_n 0, 1) := by decide +kernel
theorem dX4_thrown_1 : decode cX4_thrown 1 = .ok (.getfield 54, 3) := by decide +kernel
theorem dX4_thrown_4 : decode cX4_thrown 4 = .ok (.ireturn, 1) := by decide +kernel
abbrev cX4_mat : ByteArray := prog_17_method_17_code
def yX4_mat : MethodName := ⟨RX4, "mat", "()I"⟩
def dkwX4_mat_3 : List UInt8 := [4, 96, 79, 42, 42, 180, 0, 9, 4, 46, 4, 100, 182, 0, 85, 172]
abbrev dktX4_mat_3 : List UInt8 := dkwX4_mat_3 ++ []
def dkwX4_mat_2 : List UInt8 := [16, 8, 160, 0, 7, 4, 167, 0, 4, 3, 79, 132, 1, 1, 167, 255, 220, 42, 180, 0, 9, 4, 92, 46]
abbrev dktX4_mat_2 : List UInt8 := dkwX4_mat_2 ++ dktX4_mat_3
def dkwX4_mat_1 : List UInt8 := [3, 60, 27, 16, 10, 162, 0, 36, 42, 180, 0, 9, 42, 180, 0, 9, 4, 46, 184, 0, 82, 27, 96, 27]
abbrev dktX4_mat_1 : List UInt8 := dkwX4_mat_1 ++ dktX4_mat_2
def dkwX4_mat_0 : List UInt8 := [42, 182, 0, 79, 42, 180, 0, 9, 4, 46, 16, 6, 160, 0, 12, 42, 4, 4, 16, 6, 182, 0, 64, 172]
abbrev dktX4_mat_0 : List UInt8 := dkwX4_mat_0 ++ dktX4_mat_1
theorem dksX4_mat_0 : cX4_mat.data.toList.drop 0 = dktX4_mat_0 := by decide +kernel
theorem dksX4_mat_1 : cX4_mat.data.toList.drop 24 = dktX4_mat_1 := dk_seg dksX4_mat_0 24 rfl rfl
theorem dksX4_mat_2 : cX4_mat.data.toList.drop 48 = dktX4_mat_2 := dk_seg dksX4_mat_1 24 rfl rfl
theorem dksX4_mat_3 : cX4_mat.data.toList.drop 72 = dktX4_mat_3 := dk_seg dksX4_mat_2 24 rfl rfl
theorem dX4_mat_0 : decode cX4_mat 0 = .ok (.aload_n 0, 1) := dk_42 (dk_at dksX4_mat_0 0 rfl rfl)
theorem dX4_mat_1 : decode cX4_mat 1 = .ok (.invokevirtual 79, 3) := dk_182 0 79 (dk_at dksX4_mat_0 1 rfl rfl)
theorem dX4_mat_4 : decode cX4_mat 4 = .ok (.aload_n 0, 1) := dk_42 (dk_at dksX4_mat_0 4 rfl rfl)
theorem dX4_mat_5 : decode cX4_mat 5 = .ok (.getfield 9, 3) := dk_180 0 9 (dk_at dksX4_mat_0 5 rfl rfl)
theorem dX4_mat_8 : decode cX4_mat 8 = .ok (.iconst 1, 1) := dk_4 (dk_at dksX4_mat_0 8 rfl rfl)
theorem dX4_mat_9 : decode cX4_mat 9 = .ok (.iaload, 1) := dk_46 (dk_at dksX4_mat_0 9 rfl rfl)
theorem dX4_mat_10 : decode cX4_mat 10 = .ok (.bipush 6, 2) := dk_16 6 (dk_at dksX4_mat_0 10 rfl rfl)
theorem dX4_mat_12 : decode cX4_mat 12 = .ok (.if_icmp .ne 12, 3) := dk_160 0 12 (dk_at dksX4_mat_0 12 rfl rfl)
theorem dX4_mat_15 : decode cX4_mat 15 = .ok (.aload_n 0, 1) := dk_42 (dk_at dksX4_mat_0 15 rfl rfl)
theorem dX4_mat_16 : decode cX4_mat 16 = .ok (.iconst 1, 1) := dk_4 (dk_at dksX4_mat_0 16 rfl rfl)
theorem dX4_mat_17 : decode cX4_mat 17 = .ok (.iconst 1, 1) := dk_4 (dk_at dksX4_mat_0 17 rfl rfl)
theorem dX4_mat_18 : decode cX4_mat 18 = .ok (.bipush 6, 2) := dk_16 6 (dk_at dksX4_mat_0 18 rfl rfl)
theorem dX4_mat_20 : decode cX4_mat 20 = .ok (.invokevirtual 64, 3) := dk_182 0 64 (dk_at dksX4_mat_0 20 rfl rfl)
theorem dX4_mat_23 : decode cX4_mat 23 = .ok (.ireturn, 1) := dk_172 (dk_at dksX4_mat_0 23 rfl rfl)
theorem dX4_mat_24 : decode cX4_mat 24 = .ok (.iconst 0, 1) := dk_3 (dk_at dksX4_mat_1 0 rfl rfl)
theorem dX4_mat_25 : decode cX4_mat 25 = .ok (.istore_n 1, 1) := dk_60 (dk_at dksX4_mat_1 1 rfl rfl)
theorem dX4_mat_26 : decode cX4_mat 26 = .ok (.iload_n 1, 1) := dk_27 (dk_at dksX4_mat_1 2 rfl rfl)
theorem dX4_mat_27 : decode cX4_mat 27 = .ok (.bipush 10, 2) := dk_16 10 (dk_at dksX4_mat_1 3 rfl rfl)
theorem dX4_mat_29 : decode cX4_mat 29 = .ok (.if_icmp .ge 36, 3) := dk_162 0 36 (dk_at dksX4_mat_1 5 rfl rfl)
theorem dX4_mat_32 : decode cX4_mat 32 = .ok (.aload_n 0, 1) := dk_42 (dk_at dksX4_mat_1 8 rfl rfl)
theorem dX4_mat_33 : decode cX4_mat 33 = .ok (.getfield 9, 3) := dk_180 0 9 (dk_at dksX4_mat_1 9 rfl rfl)
theorem dX4_mat_36 : decode cX4_mat 36 = .ok (.aload_n 0, 1) := dk_42 (dk_at dksX4_mat_1 12 rfl rfl)
theorem dX4_mat_37 : decode cX4_mat 37 = .ok (.getfield 9, 3) := dk_180 0 9 (dk_at dksX4_mat_1 13 rfl rfl)
theorem dX4_mat_40 : decode cX4_mat 40 = .ok (.iconst 1, 1) := dk_4 (dk_at dksX4_mat_1 16 rfl rfl)
theorem dX4_mat_41 : decode cX4_mat 41 = .ok (.iaload, 1) := dk_46 (dk_at dksX4_mat_1 17 rfl rfl)
theorem dX4_mat_42 : decode cX4_mat 42 = .ok (.invokestatic 82, 3) := dk_184 0 82 (dk_at dksX4_mat_1 18 rfl rfl)
theorem dX4_mat_45 : decode cX4_mat 45 = .ok (.iload_n 1, 1) := dk_27 (dk_at dksX4_mat_1 21 rfl rfl)
theorem dX4_mat_46 : decode cX4_mat 46 = .ok (.iadd, 1) := dk_96 (dk_at dksX4_mat_1 22 rfl rfl)
theorem dX4_mat_47 : decode cX4_mat 47 = .ok (.iload_n 1, 1) := dk_27 (dk_at dksX4_mat_1 23 rfl rfl)
theorem dX4_mat_48 : decode cX4_mat 48 = .ok (.bipush 8, 2) := dk_16 8 (dk_at dksX4_mat_2 0 rfl rfl)
theorem dX4_mat_50 : decode cX4_mat 50 = .ok (.if_icmp .ne 7, 3) := dk_160 0 7 (dk_at dksX4_mat_2 2 rfl rfl)
theorem dX4_mat_53 : decode cX4_mat 53 = .ok (.iconst 1, 1) := dk_4 (dk_at dksX4_mat_2 5 rfl rfl)
theorem dX4_mat_54 : decode cX4_mat 54 = .ok (.goto 4, 3) := dk_167 0 4 (dk_at dksX4_mat_2 6 rfl rfl)
theorem dX4_mat_57 : decode cX4_mat 57 = .ok (.iconst 0, 1) := dk_3 (dk_at dksX4_mat_2 9 rfl rfl)
theorem dX4_mat_58 : decode cX4_mat 58 = .ok (.iastore, 1) := dk_79 (dk_at dksX4_mat_2 10 rfl rfl)
theorem dX4_mat_59 : decode cX4_mat 59 = .ok (.iinc 1 1, 3) := dk_132 1 1 (dk_at dksX4_mat_2 11 rfl rfl)
theorem dX4_mat_62 : decode cX4_mat 62 = .ok (.goto (-36), 3) := dk_167 255 220 (dk_at dksX4_mat_2 14 rfl rfl)
theorem dX4_mat_65 : decode cX4_mat 65 = .ok (.aload_n 0, 1) := dk_42 (dk_at dksX4_mat_2 17 rfl rfl)
theorem dX4_mat_66 : decode cX4_mat 66 = .ok (.getfield 9, 3) := dk_180 0 9 (dk_at dksX4_mat_2 18 rfl rfl)
theorem dX4_mat_69 : decode cX4_mat 69 = .ok (.iconst 1, 1) := dk_4 (dk_at dksX4_mat_2 21 rfl rfl)
theorem dX4_mat_70 : decode cX4_mat 70 = .ok (.dup2, 1) := dk_92 (dk_at dksX4_mat_2 22 rfl rfl)
theorem dX4_mat_71 : decode cX4_mat 71 = .ok (.iaload, 1) := dk_46 (dk_at dksX4_mat_2 23 rfl rfl)
theorem dX4_mat_72 : decode cX4_mat 72 = .ok (.iconst 1, 1) := dk_4 (dk_at dksX4_mat_3 0 rfl rfl)
theorem dX4_mat_73 : decode cX4_mat 73 = .ok (.iadd, 1) := dk_96 (dk_at dksX4_mat_3 1 rfl rfl)
theorem dX4_mat_74 : decode cX4_mat 74 = .ok (.iastore, 1) := dk_79 (dk_at dksX4_mat_3 2 rfl rfl)
theorem dX4_mat_75 : decode cX4_mat 75 = .ok (.aload_n 0, 1) := dk_42 (dk_at dksX4_mat_3 3 rfl rfl)
theorem dX4_mat_76 : decode cX4_mat 76 = .ok (.aload_n 0, 1) := dk_42 (dk_at dksX4_mat_3 4 rfl rfl)
theorem dX4_mat_77 : decode cX4_mat 77 = .ok (.getfield 9, 3) := dk_180 0 9 (dk_at dksX4_mat_3 5 rfl rfl)
theorem dX4_mat_80 : decode cX4_mat 80 = .ok (.iconst 1, 1) := dk_4 (dk_at dksX4_mat_3 8 rfl rfl)
theorem dX4_mat_81 : decode cX4_mat 81 = .ok (.iaload, 1) := dk_46 (dk_at dksX4_mat_3 9 rfl rfl)
theorem dX4_mat_82 : decode cX4_mat 82 = .ok (.iconst 1, 1) := dk_4 (dk_at dksX4_mat_3 10 rfl rfl)
theorem dX4_mat_83 : decode cX4_mat 83 = .ok (.isub, 1) := dk_100 (dk_at dksX4_mat_3 11 rfl rfl)
theorem dX4_mat_84 : decode cX4_mat 84 = .ok (.invokevirtual 85, 3) := dk_182 0 85 (dk_at dksX4_mat_3 12 rfl rfl)
theorem dX4_mat_87 : decode cX4_mat 87 = .ok (.ireturn, 1) := dk_172 (dk_at dksX4_mat_3 15 rfl rfl)
abbrev cX4_layAside : ByteArray := prog_17_method_7_code
def yX4_layAside : MethodName := ⟨RX4, "layAside", "()V"⟩
def dkwX4_layAside_1 : List UInt8 := [46, 79, 132, 1, 1, 167, 255, 234, 177]
abbrev dktX4_layAside_1 : List UInt8 := dkwX4_layAside_1 ++ []
def dkwX4_layAside_0 : List UInt8 := [42, 3, 181, 0, 54, 3, 60, 27, 17, 1, 50, 162, 0, 21, 42, 180, 0, 13, 27, 42, 180, 0, 9, 27]
abbrev dktX4_layAside_0 : List UInt8 := dkwX4_layAside_0 ++ dktX4_layAside_1
theorem dksX4_layAside_0 : cX4_layAside.data.toList.drop 0 = dktX4_layAside_0 := by decide +kernel
theorem dksX4_layAside_1 : cX4_layAside.data.toList.drop 24 = dktX4_layAside_1 := dk_seg dksX4_layAside_0 24 rfl rfl
theorem dX4_layAside_0 : decode cX4_layAside 0 = .ok (.aload_n 0, 1) := dk_42 (dk_at dksX4_layAside_0 0 rfl rfl)
theorem dX4_layAside_1 : decode cX4_layAside 1 = .ok (.iconst 0, 1) := dk_3 (dk_at dksX4_layAside_0 1 rfl rfl)
theorem dX4_layAside_2 : decode cX4_layAside 2 = .ok (.putfield 54, 3) := dk_181 0 54 (dk_at dksX4_layAside_0 2 rfl rfl)
theorem dX4_layAside_5 : decode cX4_layAside 5 = .ok (.iconst 0, 1) := dk_3 (dk_at dksX4_layAside_0 5 rfl rfl)
theorem dX4_layAside_6 : decode cX4_layAside 6 = .ok (.istore_n 1, 1) := dk_60 (dk_at dksX4_layAside_0 6 rfl rfl)
theorem dX4_layAside_7 : decode cX4_layAside 7 = .ok (.iload_n 1, 1) := dk_27 (dk_at dksX4_layAside_0 7 rfl rfl)
theorem dX4_layAside_8 : decode cX4_layAside 8 = .ok (.sipush 306, 3) := dk_17 1 50 (dk_at dksX4_layAside_0 8 rfl rfl)
theorem dX4_layAside_11 : decode cX4_layAside 11 = .ok (.if_icmp .ge 21, 3) := dk_162 0 21 (dk_at dksX4_layAside_0 11 rfl rfl)
theorem dX4_layAside_14 : decode cX4_layAside 14 = .ok (.aload_n 0, 1) := dk_42 (dk_at dksX4_layAside_0 14 rfl rfl)
theorem dX4_layAside_15 : decode cX4_layAside 15 = .ok (.getfield 13, 3) := dk_180 0 13 (dk_at dksX4_layAside_0 15 rfl rfl)
theorem dX4_layAside_18 : decode cX4_layAside 18 = .ok (.iload_n 1, 1) := dk_27 (dk_at dksX4_layAside_0 18 rfl rfl)
theorem dX4_layAside_19 : decode cX4_layAside 19 = .ok (.aload_n 0, 1) := dk_42 (dk_at dksX4_layAside_0 19 rfl rfl)
theorem dX4_layAside_20 : decode cX4_layAside 20 = .ok (.getfield 9, 3) := dk_180 0 9 (dk_at dksX4_layAside_0 20 rfl rfl)
theorem dX4_layAside_23 : decode cX4_layAside 23 = .ok (.iload_n 1, 1) := dk_27 (dk_at dksX4_layAside_0 23 rfl rfl)
theorem dX4_layAside_24 : decode cX4_layAside 24 = .ok (.iaload, 1) := dk_46 (dk_at dksX4_layAside_1 0 rfl rfl)
theorem dX4_layAside_25 : decode cX4_layAside 25 = .ok (.iastore, 1) := dk_79 (dk_at dksX4_layAside_1 1 rfl rfl)
theorem dX4_layAside_26 : decode cX4_layAside 26 = .ok (.iinc 1 1, 3) := dk_132 1 1 (dk_at dksX4_layAside_1 2 rfl rfl)
theorem dX4_layAside_29 : decode cX4_layAside 29 = .ok (.goto (-22), 3) := dk_167 255 234 (dk_at dksX4_layAside_1 5 rfl rfl)
theorem dX4_layAside_32 : decode cX4_layAside 32 = .ok (.return_, 1) := dk_177 (dk_at dksX4_layAside_1 8 rfl rfl)
abbrev cX4_refuse : ByteArray := prog_17_method_5_code
def yX4_refuse : MethodName := ⟨RX4, "refuse", "(III)I"⟩
def dkwX4_refuse_1 : List UInt8 := [172]
abbrev dktX4_refuse_1 : List UInt8 := dkwX4_refuse_1 ++ []
def dkwX4_refuse_0 : List UInt8 := [42, 180, 0, 25, 3, 28, 79, 42, 180, 0, 28, 3, 29, 79, 42, 4, 181, 0, 57, 42, 27, 182, 0, 60]
abbrev dktX4_refuse_0 : List UInt8 := dkwX4_refuse_0 ++ dktX4_refuse_1
theorem dksX4_refuse_0 : cX4_refuse.data.toList.drop 0 = dktX4_refuse_0 := by decide +kernel
theorem dksX4_refuse_1 : cX4_refuse.data.toList.drop 24 = dktX4_refuse_1 := dk_seg dksX4_refuse_0 24 rfl rfl
theorem dX4_refuse_0 : decode cX4_refuse 0 = .ok (.aload_n 0, 1) := dk_42 (dk_at dksX4_refuse_0 0 rfl rfl)
theorem dX4_refuse_1 : decode cX4_refuse 1 = .ok (.getfield 25, 3) := dk_180 0 25 (dk_at dksX4_refuse_0 1 rfl rfl)
theorem dX4_refuse_4 : decode cX4_refuse 4 = .ok (.iconst 0, 1) := dk_3 (dk_at dksX4_refuse_0 4 rfl rfl)
theorem dX4_refuse_5 : decode cX4_refuse 5 = .ok (.iload_n 2, 1) := dk_28 (dk_at dksX4_refuse_0 5 rfl rfl)
theorem dX4_refuse_6 : decode cX4_refuse 6 = .ok (.iastore, 1) := dk_79 (dk_at dksX4_refuse_0 6 rfl rfl)
theorem dX4_refuse_7 : decode cX4_refuse 7 = .ok (.aload_n 0, 1) := dk_42 (dk_at dksX4_refuse_0 7 rfl rfl)
theorem dX4_refuse_8 : decode cX4_refuse 8 = .ok (.getfield 28, 3) := dk_180 0 28 (dk_at dksX4_refuse_0 8 rfl rfl)
theorem dX4_refuse_11 : decode cX4_refuse 11 = .ok (.iconst 0, 1) := dk_3 (dk_at dksX4_refuse_0 11 rfl rfl)
theorem dX4_refuse_12 : decode cX4_refuse 12 = .ok (.iload_n 3, 1) := dk_29 (dk_at dksX4_refuse_0 12 rfl rfl)
theorem dX4_refuse_13 : decode cX4_refuse 13 = .ok (.iastore, 1) := dk_79 (dk_at dksX4_refuse_0 13 rfl rfl)
theorem dX4_refuse_14 : decode cX4_refuse 14 = .ok (.aload_n 0, 1) := dk_42 (dk_at dksX4_refuse_0 14 rfl rfl)
theorem dX4_refuse_15 : decode cX4_refuse 15 = .ok (.iconst 1, 1) := dk_4 (dk_at dksX4_refuse_0 15 rfl rfl)
theorem dX4_refuse_16 : decode cX4_refuse 16 = .ok (.putfield 57, 3) := dk_181 0 57 (dk_at dksX4_refuse_0 16 rfl rfl)
theorem dX4_refuse_19 : decode cX4_refuse 19 = .ok (.aload_n 0, 1) := dk_42 (dk_at dksX4_refuse_0 19 rfl rfl)
theorem dX4_refuse_20 : decode cX4_refuse 20 = .ok (.iload_n 1, 1) := dk_27 (dk_at dksX4_refuse_0 20 rfl rfl)
theorem dX4_refuse_21 : decode cX4_refuse 21 = .ok (.invokevirtual 60, 3) := dk_182 0 60 (dk_at dksX4_refuse_0 21 rfl rfl)
theorem dX4_refuse_24 : decode cX4_refuse 24 = .ok (.ireturn, 1) := dk_172 (dk_at dksX4_refuse_1 0 rfl rfl)
abbrev cX4_throwing : ByteArray := prog_17_method_4_code
def yX4_throwing : MethodName := ⟨RX4, "throwing", "(I)I"⟩
def dkwX4_throwing_0 : List UInt8 := [42, 27, 181, 0, 54, 3, 172]
abbrev dktX4_throwing_0 : List UInt8 := dkwX4_throwing_0 ++ []
theorem dksX4_throwing_0 : cX4_throwing.data.toList.drop 0 = dktX4_throwing_0 := by decide +kernel
theorem dX4_throwing_0 : decode cX4_throwing 0 = .ok (.aload_n 0, 1) := dk_42 (dk_at dksX4_throwing_0 0 rfl rfl)
theorem dX4_throwing_1 : decode cX4_throwing 1 = .ok (.iload_n 1, 1) := dk_27 (dk_at dksX4_throwing_0 1 rfl rfl)
theorem dX4_throwing_2 : decode cX4_throwing 2 = .ok (.putfield 54, 3) := dk_181 0 54 (dk_at dksX4_throwing_0 2 rfl rfl)
theorem dX4_throwing_5 : decode cX4_throwing 5 = .ok (.iconst 0, 1) := dk_3 (dk_at dksX4_throwing_0 5 rfl rfl)
theorem dX4_throwing_6 : decode cX4_throwing 6 = .ok (.ireturn, 1) := dk_172 (dk_at dksX4_throwing_0 6 rfl rfl)
abbrev cX4_of : ByteArray := prog_17_method_9_code
def yX4_of : MethodName := ⟨RX4, "of", "(I)I"⟩
def dkwX4_of_0 : List UInt8 := [16, 8, 16, 10, 26, 104, 96, 172]
abbrev dktX4_of_0 : List UInt8 := dkwX4_of_0 ++ []
theorem dksX4_of_0 : cX4_of.data.toList.drop 0 = dktX4_of_0 := by decide +kernel
theorem dX4_of_0 : decode cX4_of 0 = .ok (.bipush 8, 2) := dk_16 8 (dk_at dksX4_of_0 0 rfl rfl)
theorem dX4_of_2 : decode cX4_of 2 = .ok (.bipush 10, 2) := dk_16 10 (dk_at dksX4_of_0 2 rfl rfl)
theorem dX4_of_4 : decode cX4_of 4 = .ok (.iload_n 0, 1) := dk_26 (dk_at dksX4_of_0 4 rfl rfl)
theorem dX4_of_5 : decode cX4_of 5 = .ok (.imul, 1) := dk_104 (dk_at dksX4_of_0 5 rfl rfl)
theorem dX4_of_6 : decode cX4_of 6 = .ok (.iadd, 1) := dk_96 (dk_at dksX4_of_0 6 rfl rfl)
theorem dX4_of_7 : decode cX4_of 7 = .ok (.ireturn, 1) := dk_172 (dk_at dksX4_of_0 7 rfl rfl)
abbrev cX4_changed : ByteArray := prog_17_method_8_code
def yX4_changed : MethodName := ⟨RX4, "changed", "(I)I"⟩
def dkwX4_changed_4 : List UInt8 := [167, 255, 225, 42, 89, 180, 0, 68, 4, 96, 181, 0, 68, 27, 172]
abbrev dktX4_changed_4 : List UInt8 := dkwX4_changed_4 ++ []
def dkwX4_changed_3 : List UInt8 := [180, 0, 22, 17, 1, 50, 42, 180, 0, 68, 104, 28, 96, 42, 180, 0, 13, 28, 46, 79, 132, 2, 1]
abbrev dktX4_changed_3 : List UInt8 := dkwX4_changed_3 ++ dktX4_changed_4
def dkwX4_changed_2 : List UInt8 := [167, 255, 230, 42, 89, 180, 0, 68, 4, 100, 181, 0, 68, 3, 61, 28, 17, 1, 50, 162, 0, 30, 42]
abbrev dktX4_changed_2 : List UInt8 := dkwX4_changed_2 ++ dktX4_changed_3
def dkwX4_changed_1 : List UInt8 := [162, 0, 25, 42, 180, 0, 22, 28, 42, 180, 0, 22, 28, 17, 1, 50, 96, 46, 79, 132, 2, 1]
abbrev dktX4_changed_1 : List UInt8 := dkwX4_changed_1 ++ dktX4_changed_2
def dkwX4_changed_0 : List UInt8 := [42, 180, 0, 54, 158, 0, 5, 27, 172, 42, 180, 0, 68, 16, 6, 160, 0, 44, 3, 61, 28, 17, 5, 250]
abbrev dktX4_changed_0 : List UInt8 := dkwX4_changed_0 ++ dktX4_changed_1
theorem dksX4_changed_0 : cX4_changed.data.toList.drop 0 = dktX4_changed_0 := by decide +kernel
theorem dksX4_changed_1 : cX4_changed.data.toList.drop 24 = dktX4_changed_1 := dk_seg dksX4_changed_0 24 rfl rfl
theorem dksX4_changed_2 : cX4_changed.data.toList.drop 46 = dktX4_changed_2 := dk_seg dksX4_changed_1 22 rfl rfl
theorem dksX4_changed_3 : cX4_changed.data.toList.drop 69 = dktX4_changed_3 := dk_seg dksX4_changed_2 23 rfl rfl
theorem dksX4_changed_4 : cX4_changed.data.toList.drop 92 = dktX4_changed_4 := dk_seg dksX4_changed_3 23 rfl rfl
theorem dX4_changed_0 : decode cX4_changed 0 = .ok (.aload_n 0, 1) := dk_42 (dk_at dksX4_changed_0 0 rfl rfl)
theorem dX4_changed_1 : decode cX4_changed 1 = .ok (.getfield 54, 3) := dk_180 0 54 (dk_at dksX4_changed_0 1 rfl rfl)
theorem dX4_changed_4 : decode cX4_changed 4 = .ok (.ifCond .le 5, 3) := dk_158 0 5 (dk_at dksX4_changed_0 4 rfl rfl)
theorem dX4_changed_7 : decode cX4_changed 7 = .ok (.iload_n 1, 1) := dk_27 (dk_at dksX4_changed_0 7 rfl rfl)
theorem dX4_changed_8 : decode cX4_changed 8 = .ok (.ireturn, 1) := dk_172 (dk_at dksX4_changed_0 8 rfl rfl)
theorem dX4_changed_9 : decode cX4_changed 9 = .ok (.aload_n 0, 1) := dk_42 (dk_at dksX4_changed_0 9 rfl rfl)
theorem dX4_changed_10 : decode cX4_changed 10 = .ok (.getfield 68, 3) := dk_180 0 68 (dk_at dksX4_changed_0 10 rfl rfl)
theorem dX4_changed_13 : decode cX4_changed 13 = .ok (.bipush 6, 2) := dk_16 6 (dk_at dksX4_changed_0 13 rfl rfl)
theorem dX4_changed_15 : decode cX4_changed 15 = .ok (.if_icmp .ne 44, 3) := dk_160 0 44 (dk_at dksX4_changed_0 15 rfl rfl)
theorem dX4_changed_18 : decode cX4_changed 18 = .ok (.iconst 0, 1) := dk_3 (dk_at dksX4_changed_0 18 rfl rfl)
theorem dX4_changed_19 : decode cX4_changed 19 = .ok (.istore_n 2, 1) := dk_61 (dk_at dksX4_changed_0 19 rfl rfl)
theorem dX4_changed_20 : decode cX4_changed 20 = .ok (.iload_n 2, 1) := dk_28 (dk_at dksX4_changed_0 20 rfl rfl)
theorem dX4_changed_21 : decode cX4_changed 21 = .ok (.sipush 1530, 3) := dk_17 5 250 (dk_at dksX4_changed_0 21 rfl rfl)
theorem dX4_changed_24 : decode cX4_changed 24 = .ok (.if_icmp .ge 25, 3) := dk_162 0 25 (dk_at dksX4_changed_1 0 rfl rfl)
theorem dX4_changed_27 : decode cX4_changed 27 = .ok (.aload_n 0, 1) := dk_42 (dk_at dksX4_changed_1 3 rfl rfl)
theorem dX4_changed_28 : decode cX4_changed 28 = .ok (.getfield 22, 3) := dk_180 0 22 (dk_at dksX4_changed_1 4 rfl rfl)
theorem dX4_changed_31 : decode cX4_changed 31 = .ok (.iload_n 2, 1) := dk_28 (dk_at dksX4_changed_1 7 rfl rfl)
theorem dX4_changed_32 : decode cX4_changed 32 = .ok (.aload_n 0, 1) := dk_42 (dk_at dksX4_changed_1 8 rfl rfl)
theorem dX4_changed_33 : decode cX4_changed 33 = .ok (.getfield 22, 3) := dk_180 0 22 (dk_at dksX4_changed_1 9 rfl rfl)
theorem dX4_changed_36 : decode cX4_changed 36 = .ok (.iload_n 2, 1) := dk_28 (dk_at dksX4_changed_1 12 rfl rfl)
theorem dX4_changed_37 : decode cX4_changed 37 = .ok (.sipush 306, 3) := dk_17 1 50 (dk_at dksX4_changed_1 13 rfl rfl)
theorem dX4_changed_40 : decode cX4_changed 40 = .ok (.iadd, 1) := dk_96 (dk_at dksX4_changed_1 16 rfl rfl)
theorem dX4_changed_41 : decode cX4_changed 41 = .ok (.iaload, 1) := dk_46 (dk_at dksX4_changed_1 17 rfl rfl)
theorem dX4_changed_42 : decode cX4_changed 42 = .ok (.iastore, 1) := dk_79 (dk_at dksX4_changed_1 18 rfl rfl)
theorem dX4_changed_43 : decode cX4_changed 43 = .ok (.iinc 2 1, 3) := dk_132 2 1 (dk_at dksX4_changed_1 19 rfl rfl)
theorem dX4_changed_46 : decode cX4_changed 46 = .ok (.goto (-26), 3) := dk_167 255 230 (dk_at dksX4_changed_2 0 rfl rfl)
theorem dX4_changed_49 : decode cX4_changed 49 = .ok (.aload_n 0, 1) := dk_42 (dk_at dksX4_changed_2 3 rfl rfl)
theorem dX4_changed_50 : decode cX4_changed 50 = .ok (.dup, 1) := dk_89 (dk_at dksX4_changed_2 4 rfl rfl)
theorem dX4_changed_51 : decode cX4_changed 51 = .ok (.getfield 68, 3) := dk_180 0 68 (dk_at dksX4_changed_2 5 rfl rfl)
theorem dX4_changed_54 : decode cX4_changed 54 = .ok (.iconst 1, 1) := dk_4 (dk_at dksX4_changed_2 8 rfl rfl)
theorem dX4_changed_55 : decode cX4_changed 55 = .ok (.isub, 1) := dk_100 (dk_at dksX4_changed_2 9 rfl rfl)
theorem dX4_changed_56 : decode cX4_changed 56 = .ok (.putfield 68, 3) := dk_181 0 68 (dk_at dksX4_changed_2 10 rfl rfl)
theorem dX4_changed_59 : decode cX4_changed 59 = .ok (.iconst 0, 1) := dk_3 (dk_at dksX4_changed_2 13 rfl rfl)
theorem dX4_changed_60 : decode cX4_changed 60 = .ok (.istore_n 2, 1) := dk_61 (dk_at dksX4_changed_2 14 rfl rfl)
theorem dX4_changed_61 : decode cX4_changed 61 = .ok (.iload_n 2, 1) := dk_28 (dk_at dksX4_changed_2 15 rfl rfl)
theorem dX4_changed_62 : decode cX4_changed 62 = .ok (.sipush 306, 3) := dk_17 1 50 (dk_at dksX4_changed_2 16 rfl rfl)
theorem dX4_changed_65 : decode cX4_changed 65 = .ok (.if_icmp .ge 30, 3) := dk_162 0 30 (dk_at dksX4_changed_2 19 rfl rfl)
theorem dX4_changed_68 : decode cX4_changed 68 = .ok (.aload_n 0, 1) := dk_42 (dk_at dksX4_changed_2 22 rfl rfl)
theorem dX4_changed_69 : decode cX4_changed 69 = .ok (.getfield 22, 3) := dk_180 0 22 (dk_at dksX4_changed_3 0 rfl rfl)
theorem dX4_changed_72 : decode cX4_changed 72 = .ok (.sipush 306, 3) := dk_17 1 50 (dk_at dksX4_changed_3 3 rfl rfl)
theorem dX4_changed_75 : decode cX4_changed 75 = .ok (.aload_n 0, 1) := dk_42 (dk_at dksX4_changed_3 6 rfl rfl)
theorem dX4_changed_76 : decode cX4_changed 76 = .ok (.getfield 68, 3) := dk_180 0 68 (dk_at dksX4_changed_3 7 rfl rfl)
theorem dX4_changed_79 : decode cX4_changed 79 = .ok (.imul, 1) := dk_104 (dk_at dksX4_changed_3 10 rfl rfl)
theorem dX4_changed_80 : decode cX4_changed 80 = .ok (.iload_n 2, 1) := dk_28 (dk_at dksX4_changed_3 11 rfl rfl)
theorem dX4_changed_81 : decode cX4_changed 81 = .ok (.iadd, 1) := dk_96 (dk_at dksX4_changed_3 12 rfl rfl)
theorem dX4_changed_82 : decode cX4_changed 82 = .ok (.aload_n 0, 1) := dk_42 (dk_at dksX4_changed_3 13 rfl rfl)
theorem dX4_changed_83 : decode cX4_changed 83 = .ok (.getfield 13, 3) := dk_180 0 13 (dk_at dksX4_changed_3 14 rfl rfl)
theorem dX4_changed_86 : decode cX4_changed 86 = .ok (.iload_n 2, 1) := dk_28 (dk_at dksX4_changed_3 17 rfl rfl)
theorem dX4_changed_87 : decode cX4_changed 87 = .ok (.iaload, 1) := dk_46 (dk_at dksX4_changed_3 18 rfl rfl)
theorem dX4_changed_88 : decode cX4_changed 88 = .ok (.iastore, 1) := dk_79 (dk_at dksX4_changed_3 19 rfl rfl)
theorem dX4_changed_89 : decode cX4_changed 89 = .ok (.iinc 2 1, 3) := dk_132 2 1 (dk_at dksX4_changed_3 20 rfl rfl)
theorem dX4_changed_92 : decode cX4_changed 92 = .ok (.goto (-31), 3) := dk_167 255 225 (dk_at dksX4_changed_4 0 rfl rfl)
theorem dX4_changed_95 : decode cX4_changed 95 = .ok (.aload_n 0, 1) := dk_42 (dk_at dksX4_changed_4 3 rfl rfl)
theorem dX4_changed_96 : decode cX4_changed 96 = .ok (.dup, 1) := dk_89 (dk_at dksX4_changed_4 4 rfl rfl)
theorem dX4_changed_97 : decode cX4_changed 97 = .ok (.getfield 68, 3) := dk_180 0 68 (dk_at dksX4_changed_4 5 rfl rfl)
theorem dX4_changed_100 : decode cX4_changed 100 = .ok (.iconst 1, 1) := dk_4 (dk_at dksX4_changed_4 8 rfl rfl)
theorem dX4_changed_101 : decode cX4_changed 101 = .ok (.iadd, 1) := dk_96 (dk_at dksX4_changed_4 9 rfl rfl)
theorem dX4_changed_102 : decode cX4_changed 102 = .ok (.putfield 68, 3) := dk_181 0 68 (dk_at dksX4_changed_4 10 rfl rfl)
theorem dX4_changed_105 : decode cX4_changed 105 = .ok (.iload_n 1, 1) := dk_27 (dk_at dksX4_changed_4 13 rfl rfl)
theorem dX4_changed_106 : decode cX4_changed 106 = .ok (.ireturn, 1) := dk_172 (dk_at dksX4_changed_4 14 rfl rfl)
abbrev cX4_fix : ByteArray := prog_17_method_26_code
def yX4_fix : MethodName := ⟨RX4, "fix", "(II)I"⟩
def dkwX4_fix_0 : List UInt8 := [42, 182, 0, 79, 42, 42, 27, 28, 182, 0, 110, 182, 0, 85, 172]
abbrev dktX4_fix_0 : List UInt8 := dkwX4_fix_0 ++ []
theorem dksX4_fix_0 : cX4_fix.data.toList.drop 0 = dktX4_fix_0 := by decide +kernel
theorem dX4_fix_0 : decode cX4_fix 0 = .ok (.aload_n 0, 1) := dk_42 (dk_at dksX4_fix_0 0 rfl rfl)
theorem dX4_fix_1 : decode cX4_fix 1 = .ok (.invokevirtual 79, 3) := dk_182 0 79 (dk_at dksX4_fix_0 1 rfl rfl)
theorem dX4_fix_4 : decode cX4_fix 4 = .ok (.aload_n 0, 1) := dk_42 (dk_at dksX4_fix_0 4 rfl rfl)
theorem dX4_fix_5 : decode cX4_fix 5 = .ok (.aload_n 0, 1) := dk_42 (dk_at dksX4_fix_0 5 rfl rfl)
theorem dX4_fix_6 : decode cX4_fix 6 = .ok (.iload_n 1, 1) := dk_27 (dk_at dksX4_fix_0 6 rfl rfl)
theorem dX4_fix_7 : decode cX4_fix 7 = .ok (.iload_n 2, 1) := dk_28 (dk_at dksX4_fix_0 7 rfl rfl)
theorem dX4_fix_8 : decode cX4_fix 8 = .ok (.invokevirtual 110, 3) := dk_182 0 110 (dk_at dksX4_fix_0 8 rfl rfl)
theorem dX4_fix_11 : decode cX4_fix 11 = .ok (.invokevirtual 85, 3) := dk_182 0 85 (dk_at dksX4_fix_0 11 rfl rfl)
theorem dX4_fix_14 : decode cX4_fix 14 = .ok (.ireturn, 1) := dk_172 (dk_at dksX4_fix_0 14 rfl rfl)
abbrev cX4_fixIt : ByteArray := prog_17_method_25_code
def yX4_fixIt : MethodName := ⟨RX4, "fixIt", "(II)I"⟩
def dkwX4_fixIt_4 : List UInt8 := [4, 96, 79, 42, 27, 182, 0, 107, 172]
abbrev dktX4_fixIt_4 : List UInt8 := dkwX4_fixIt_4 ++ []
def dkwX4_fixIt_3 : List UInt8 := [182, 0, 64, 172, 42, 180, 0, 9, 27, 184, 0, 82, 28, 96, 3, 79, 42, 180, 0, 9, 16, 7, 92, 46]
abbrev dktX4_fixIt_3 : List UInt8 := dkwX4_fixIt_3 ++ dktX4_fixIt_4
def dkwX4_fixIt_2 : List UInt8 := [182, 0, 64, 172, 42, 180, 0, 9, 27, 184, 0, 82, 28, 96, 46, 154, 0, 12, 42, 5, 16, 13, 28]
abbrev dktX4_fixIt_2 : List UInt8 := dkwX4_fixIt_2 ++ dktX4_fixIt_3
def dkwX4_fixIt_1 : List UInt8 := [182, 0, 60, 172, 42, 27, 182, 0, 104, 2, 159, 0, 16, 42, 5, 16, 10, 42, 27, 182, 0, 104]
abbrev dktX4_fixIt_1 : List UInt8 := dkwX4_fixIt_1 ++ dktX4_fixIt_2
def dkwX4_fixIt_0 : List UInt8 := [42, 27, 182, 0, 98, 153, 0, 15, 28, 133, 9, 20, 0, 102, 184, 0, 71, 154, 0, 9, 42, 4]
abbrev dktX4_fixIt_0 : List UInt8 := dkwX4_fixIt_0 ++ dktX4_fixIt_1
theorem dksX4_fixIt_0 : cX4_fixIt.data.toList.drop 0 = dktX4_fixIt_0 := by decide +kernel
theorem dksX4_fixIt_1 : cX4_fixIt.data.toList.drop 22 = dktX4_fixIt_1 := dk_seg dksX4_fixIt_0 22 rfl rfl
theorem dksX4_fixIt_2 : cX4_fixIt.data.toList.drop 44 = dktX4_fixIt_2 := dk_seg dksX4_fixIt_1 22 rfl rfl
theorem dksX4_fixIt_3 : cX4_fixIt.data.toList.drop 67 = dktX4_fixIt_3 := dk_seg dksX4_fixIt_2 23 rfl rfl
theorem dksX4_fixIt_4 : cX4_fixIt.data.toList.drop 91 = dktX4_fixIt_4 := dk_seg dksX4_fixIt_3 24 rfl rfl
theorem dX4_fixIt_0 : decode cX4_fixIt 0 = .ok (.aload_n 0, 1) := dk_42 (dk_at dksX4_fixIt_0 0 rfl rfl)
theorem dX4_fixIt_1 : decode cX4_fixIt 1 = .ok (.iload_n 1, 1) := dk_27 (dk_at dksX4_fixIt_0 1 rfl rfl)
theorem dX4_fixIt_2 : decode cX4_fixIt 2 = .ok (.invokevirtual 98, 3) := dk_182 0 98 (dk_at dksX4_fixIt_0 2 rfl rfl)
theorem dX4_fixIt_5 : decode cX4_fixIt 5 = .ok (.ifCond .eq 15, 3) := dk_153 0 15 (dk_at dksX4_fixIt_0 5 rfl rfl)
theorem dX4_fixIt_8 : decode cX4_fixIt 8 = .ok (.iload_n 2, 1) := dk_28 (dk_at dksX4_fixIt_0 8 rfl rfl)
theorem dX4_fixIt_9 : decode cX4_fixIt 9 = .ok (.i2l, 1) := dk_133 (dk_at dksX4_fixIt_0 9 rfl rfl)
theorem dX4_fixIt_10 : decode cX4_fixIt 10 = .ok (.lconst 0, 1) := dk_9 (dk_at dksX4_fixIt_0 10 rfl rfl)
theorem dX4_fixIt_11 : decode cX4_fixIt 11 = .ok (.ldc2_w 102, 3) := dk_20 0 102 (dk_at dksX4_fixIt_0 11 rfl rfl)
theorem dX4_fixIt_14 : decode cX4_fixIt 14 = .ok (.invokestatic 71, 3) := dk_184 0 71 (dk_at dksX4_fixIt_0 14 rfl rfl)
theorem dX4_fixIt_17 : decode cX4_fixIt 17 = .ok (.ifCond .ne 9, 3) := dk_154 0 9 (dk_at dksX4_fixIt_0 17 rfl rfl)
theorem dX4_fixIt_20 : decode cX4_fixIt 20 = .ok (.aload_n 0, 1) := dk_42 (dk_at dksX4_fixIt_0 20 rfl rfl)
theorem dX4_fixIt_21 : decode cX4_fixIt 21 = .ok (.iconst 1, 1) := dk_4 (dk_at dksX4_fixIt_0 21 rfl rfl)
theorem dX4_fixIt_22 : decode cX4_fixIt 22 = .ok (.invokevirtual 60, 3) := dk_182 0 60 (dk_at dksX4_fixIt_1 0 rfl rfl)
theorem dX4_fixIt_25 : decode cX4_fixIt 25 = .ok (.ireturn, 1) := dk_172 (dk_at dksX4_fixIt_1 3 rfl rfl)
theorem dX4_fixIt_26 : decode cX4_fixIt 26 = .ok (.aload_n 0, 1) := dk_42 (dk_at dksX4_fixIt_1 4 rfl rfl)
theorem dX4_fixIt_27 : decode cX4_fixIt 27 = .ok (.iload_n 1, 1) := dk_27 (dk_at dksX4_fixIt_1 5 rfl rfl)
theorem dX4_fixIt_28 : decode cX4_fixIt 28 = .ok (.invokevirtual 104, 3) := dk_182 0 104 (dk_at dksX4_fixIt_1 6 rfl rfl)
theorem dX4_fixIt_31 : decode cX4_fixIt 31 = .ok (.iconst (-1), 1) := dk_2 (dk_at dksX4_fixIt_1 9 rfl rfl)
theorem dX4_fixIt_32 : decode cX4_fixIt 32 = .ok (.if_icmp .eq 16, 3) := dk_159 0 16 (dk_at dksX4_fixIt_1 10 rfl rfl)
theorem dX4_fixIt_35 : decode cX4_fixIt 35 = .ok (.aload_n 0, 1) := dk_42 (dk_at dksX4_fixIt_1 13 rfl rfl)
theorem dX4_fixIt_36 : decode cX4_fixIt 36 = .ok (.iconst 2, 1) := dk_5 (dk_at dksX4_fixIt_1 14 rfl rfl)
theorem dX4_fixIt_37 : decode cX4_fixIt 37 = .ok (.bipush 10, 2) := dk_16 10 (dk_at dksX4_fixIt_1 15 rfl rfl)
theorem dX4_fixIt_39 : decode cX4_fixIt 39 = .ok (.aload_n 0, 1) := dk_42 (dk_at dksX4_fixIt_1 17 rfl rfl)
theorem dX4_fixIt_40 : decode cX4_fixIt 40 = .ok (.iload_n 1, 1) := dk_27 (dk_at dksX4_fixIt_1 18 rfl rfl)
theorem dX4_fixIt_41 : decode cX4_fixIt 41 = .ok (.invokevirtual 104, 3) := dk_182 0 104 (dk_at dksX4_fixIt_1 19 rfl rfl)
theorem dX4_fixIt_44 : decode cX4_fixIt 44 = .ok (.invokevirtual 64, 3) := dk_182 0 64 (dk_at dksX4_fixIt_2 0 rfl rfl)
theorem dX4_fixIt_47 : decode cX4_fixIt 47 = .ok (.ireturn, 1) := dk_172 (dk_at dksX4_fixIt_2 3 rfl rfl)
theorem dX4_fixIt_48 : decode cX4_fixIt 48 = .ok (.aload_n 0, 1) := dk_42 (dk_at dksX4_fixIt_2 4 rfl rfl)
theorem dX4_fixIt_49 : decode cX4_fixIt 49 = .ok (.getfield 9, 3) := dk_180 0 9 (dk_at dksX4_fixIt_2 5 rfl rfl)
theorem dX4_fixIt_52 : decode cX4_fixIt 52 = .ok (.iload_n 1, 1) := dk_27 (dk_at dksX4_fixIt_2 8 rfl rfl)
theorem dX4_fixIt_53 : decode cX4_fixIt 53 = .ok (.invokestatic 82, 3) := dk_184 0 82 (dk_at dksX4_fixIt_2 9 rfl rfl)
theorem dX4_fixIt_56 : decode cX4_fixIt 56 = .ok (.iload_n 2, 1) := dk_28 (dk_at dksX4_fixIt_2 12 rfl rfl)
theorem dX4_fixIt_57 : decode cX4_fixIt 57 = .ok (.iadd, 1) := dk_96 (dk_at dksX4_fixIt_2 13 rfl rfl)
theorem dX4_fixIt_58 : decode cX4_fixIt 58 = .ok (.iaload, 1) := dk_46 (dk_at dksX4_fixIt_2 14 rfl rfl)
theorem dX4_fixIt_59 : decode cX4_fixIt 59 = .ok (.ifCond .ne 12, 3) := dk_154 0 12 (dk_at dksX4_fixIt_2 15 rfl rfl)
theorem dX4_fixIt_62 : decode cX4_fixIt 62 = .ok (.aload_n 0, 1) := dk_42 (dk_at dksX4_fixIt_2 18 rfl rfl)
theorem dX4_fixIt_63 : decode cX4_fixIt 63 = .ok (.iconst 2, 1) := dk_5 (dk_at dksX4_fixIt_2 19 rfl rfl)
theorem dX4_fixIt_64 : decode cX4_fixIt 64 = .ok (.bipush 13, 2) := dk_16 13 (dk_at dksX4_fixIt_2 20 rfl rfl)
theorem dX4_fixIt_66 : decode cX4_fixIt 66 = .ok (.iload_n 2, 1) := dk_28 (dk_at dksX4_fixIt_2 22 rfl rfl)
theorem dX4_fixIt_67 : decode cX4_fixIt 67 = .ok (.invokevirtual 64, 3) := dk_182 0 64 (dk_at dksX4_fixIt_3 0 rfl rfl)
theorem dX4_fixIt_70 : decode cX4_fixIt 70 = .ok (.ireturn, 1) := dk_172 (dk_at dksX4_fixIt_3 3 rfl rfl)
theorem dX4_fixIt_71 : decode cX4_fixIt 71 = .ok (.aload_n 0, 1) := dk_42 (dk_at dksX4_fixIt_3 4 rfl rfl)
theorem dX4_fixIt_72 : decode cX4_fixIt 72 = .ok (.getfield 9, 3) := dk_180 0 9 (dk_at dksX4_fixIt_3 5 rfl rfl)
theorem dX4_fixIt_75 : decode cX4_fixIt 75 = .ok (.iload_n 1, 1) := dk_27 (dk_at dksX4_fixIt_3 8 rfl rfl)
theorem dX4_fixIt_76 : decode cX4_fixIt 76 = .ok (.invokestatic 82, 3) := dk_184 0 82 (dk_at dksX4_fixIt_3 9 rfl rfl)
theorem dX4_fixIt_79 : decode cX4_fixIt 79 = .ok (.iload_n 2, 1) := dk_28 (dk_at dksX4_fixIt_3 12 rfl rfl)
theorem dX4_fixIt_80 : decode cX4_fixIt 80 = .ok (.iadd, 1) := dk_96 (dk_at dksX4_fixIt_3 13 rfl rfl)
theorem dX4_fixIt_81 : decode cX4_fixIt 81 = .ok (.iconst 0, 1) := dk_3 (dk_at dksX4_fixIt_3 14 rfl rfl)
theorem dX4_fixIt_82 : decode cX4_fixIt 82 = .ok (.iastore, 1) := dk_79 (dk_at dksX4_fixIt_3 15 rfl rfl)
theorem dX4_fixIt_83 : decode cX4_fixIt 83 = .ok (.aload_n 0, 1) := dk_42 (dk_at dksX4_fixIt_3 16 rfl rfl)
theorem dX4_fixIt_84 : decode cX4_fixIt 84 = .ok (.getfield 9, 3) := dk_180 0 9 (dk_at dksX4_fixIt_3 17 rfl rfl)
theorem dX4_fixIt_87 : decode cX4_fixIt 87 = .ok (.bipush 7, 2) := dk_16 7 (dk_at dksX4_fixIt_3 20 rfl rfl)
theorem dX4_fixIt_89 : decode cX4_fixIt 89 = .ok (.dup2, 1) := dk_92 (dk_at dksX4_fixIt_3 22 rfl rfl)
theorem dX4_fixIt_90 : decode cX4_fixIt 90 = .ok (.iaload, 1) := dk_46 (dk_at dksX4_fixIt_3 23 rfl rfl)
theorem dX4_fixIt_91 : decode cX4_fixIt 91 = .ok (.iconst 1, 1) := dk_4 (dk_at dksX4_fixIt_4 0 rfl rfl)
theorem dX4_fixIt_92 : decode cX4_fixIt 92 = .ok (.iadd, 1) := dk_96 (dk_at dksX4_fixIt_4 1 rfl rfl)
theorem dX4_fixIt_93 : decode cX4_fixIt 93 = .ok (.iastore, 1) := dk_79 (dk_at dksX4_fixIt_4 2 rfl rfl)
theorem dX4_fixIt_94 : decode cX4_fixIt 94 = .ok (.aload_n 0, 1) := dk_42 (dk_at dksX4_fixIt_4 3 rfl rfl)
theorem dX4_fixIt_95 : decode cX4_fixIt 95 = .ok (.iload_n 1, 1) := dk_27 (dk_at dksX4_fixIt_4 4 rfl rfl)
theorem dX4_fixIt_96 : decode cX4_fixIt 96 = .ok (.invokevirtual 107, 3) := dk_182 0 107 (dk_at dksX4_fixIt_4 5 rfl rfl)
theorem dX4_fixIt_99 : decode cX4_fixIt 99 = .ok (.ireturn, 1) := dk_172 (dk_at dksX4_fixIt_4 8 rfl rfl)
abbrev cX4_isMat : ByteArray := prog_17_method_12_code
def yX4_isMat : MethodName := ⟨RX4, "isMat", "(I)Z"⟩
def dkwX4_isMat_0 : List UInt8 := [27, 133, 9, 42, 180, 0, 9, 4, 46, 4, 100, 133, 184, 0, 71, 172]
abbrev dktX4_isMat_0 : List UInt8 := dkwX4_isMat_0 ++ []
theorem dksX4_isMat_0 : cX4_isMat.data.toList.drop 0 = dktX4_isMat_0 := by decide +kernel
theorem dX4_isMat_0 : decode cX4_isMat 0 = .ok (.iload_n 1, 1) := dk_27 (dk_at dksX4_isMat_0 0 rfl rfl)
theorem dX4_isMat_1 : decode cX4_isMat 1 = .ok (.i2l, 1) := dk_133 (dk_at dksX4_isMat_0 1 rfl rfl)
theorem dX4_isMat_2 : decode cX4_isMat 2 = .ok (.lconst 0, 1) := dk_9 (dk_at dksX4_isMat_0 2 rfl rfl)
theorem dX4_isMat_3 : decode cX4_isMat 3 = .ok (.aload_n 0, 1) := dk_42 (dk_at dksX4_isMat_0 3 rfl rfl)
theorem dX4_isMat_4 : decode cX4_isMat 4 = .ok (.getfield 9, 3) := dk_180 0 9 (dk_at dksX4_isMat_0 4 rfl rfl)
theorem dX4_isMat_7 : decode cX4_isMat 7 = .ok (.iconst 1, 1) := dk_4 (dk_at dksX4_isMat_0 7 rfl rfl)
theorem dX4_isMat_8 : decode cX4_isMat 8 = .ok (.iaload, 1) := dk_46 (dk_at dksX4_isMat_0 8 rfl rfl)
theorem dX4_isMat_9 : decode cX4_isMat 9 = .ok (.iconst 1, 1) := dk_4 (dk_at dksX4_isMat_0 9 rfl rfl)
theorem dX4_isMat_10 : decode cX4_isMat 10 = .ok (.isub, 1) := dk_100 (dk_at dksX4_isMat_0 10 rfl rfl)
theorem dX4_isMat_11 : decode cX4_isMat 11 = .ok (.i2l, 1) := dk_133 (dk_at dksX4_isMat_0 11 rfl rfl)
theorem dX4_isMat_12 : decode cX4_isMat 12 = .ok (.invokestatic 71, 3) := dk_184 0 71 (dk_at dksX4_isMat_0 12 rfl rfl)
theorem dX4_isMat_15 : decode cX4_isMat 15 = .ok (.ireturn, 1) := dk_172 (dk_at dksX4_isMat_0 15 rfl rfl)
abbrev cX4_in : ByteArray := prog_17_method_3_code
def yX4_in : MethodName := ⟨RX4, "in", "(JJJ)Z"⟩
def dkwX4_in_0 : List UInt8 := [30, 32, 148, 155, 0, 14, 30, 22, 4, 148, 157, 0, 7, 4, 167, 0, 4, 3, 172]
abbrev dktX4_in_0 : List UInt8 := dkwX4_in_0 ++ []
theorem dksX4_in_0 : cX4_in.data.toList.drop 0 = dktX4_in_0 := by decide +kernel
theorem dX4_in_0 : decode cX4_in 0 = .ok (.lload_n 0, 1) := dk_30 (dk_at dksX4_in_0 0 rfl rfl)
theorem dX4_in_1 : decode cX4_in 1 = .ok (.lload_n 2, 1) := dk_32 (dk_at dksX4_in_0 1 rfl rfl)
theorem dX4_in_2 : decode cX4_in 2 = .ok (.lcmp, 1) := dk_148 (dk_at dksX4_in_0 2 rfl rfl)
theorem dX4_in_3 : decode cX4_in 3 = .ok (.ifCond .lt 14, 3) := dk_155 0 14 (dk_at dksX4_in_0 3 rfl rfl)
theorem dX4_in_6 : decode cX4_in 6 = .ok (.lload_n 0, 1) := dk_30 (dk_at dksX4_in_0 6 rfl rfl)
theorem dX4_in_7 : decode cX4_in 7 = .ok (.lload 4, 2) := dk_22 4 (dk_at dksX4_in_0 7 rfl rfl)
theorem dX4_in_9 : decode cX4_in 9 = .ok (.lcmp, 1) := dk_148 (dk_at dksX4_in_0 9 rfl rfl)
theorem dX4_in_10 : decode cX4_in 10 = .ok (.ifCond .gt 7, 3) := dk_157 0 7 (dk_at dksX4_in_0 10 rfl rfl)
theorem dX4_in_13 : decode cX4_in 13 = .ok (.iconst 1, 1) := dk_4 (dk_at dksX4_in_0 13 rfl rfl)
theorem dX4_in_14 : decode cX4_in 14 = .ok (.goto 4, 3) := dk_167 0 4 (dk_at dksX4_in_0 14 rfl rfl)
theorem dX4_in_17 : decode cX4_in 17 = .ok (.iconst 0, 1) := dk_3 (dk_at dksX4_in_0 17 rfl rfl)
theorem dX4_in_18 : decode cX4_in 18 = .ok (.ireturn, 1) := dk_172 (dk_at dksX4_in_0 18 rfl rfl)
abbrev cX4_lowestOn : ByteArray := prog_17_method_23_code
def yX4_lowestOn : MethodName := ⟨RX4, "lowestOn", "(I)I"⟩
def dkwX4_lowestOn_1 : List UInt8 := [132, 2, 1, 167, 255, 232, 2, 172]
abbrev dktX4_lowestOn_1 : List UInt8 := dkwX4_lowestOn_1 ++ []
def dkwX4_lowestOn_0 : List UInt8 := [3, 61, 28, 42, 180, 0, 9, 5, 46, 162, 0, 20, 42, 28, 27, 182, 0, 94, 153, 0, 5, 28, 172]
abbrev dktX4_lowestOn_0 : List UInt8 := dkwX4_lowestOn_0 ++ dktX4_lowestOn_1
theorem dksX4_lowestOn_0 : cX4_lowestOn.data.toList.drop 0 = dktX4_lowestOn_0 := by decide +kernel
theorem dksX4_lowestOn_1 : cX4_lowestOn.data.toList.drop 23 = dktX4_lowestOn_1 := dk_seg dksX4_lowestOn_0 23 rfl rfl
theorem dX4_lowestOn_0 : decode cX4_lowestOn 0 = .ok (.iconst 0, 1) := dk_3 (dk_at dksX4_lowestOn_0 0 rfl rfl)
theorem dX4_lowestOn_1 : decode cX4_lowestOn 1 = .ok (.istore_n 2, 1) := dk_61 (dk_at dksX4_lowestOn_0 1 rfl rfl)
theorem dX4_lowestOn_2 : decode cX4_lowestOn 2 = .ok (.iload_n 2, 1) := dk_28 (dk_at dksX4_lowestOn_0 2 rfl rfl)
theorem dX4_lowestOn_3 : decode cX4_lowestOn 3 = .ok (.aload_n 0, 1) := dk_42 (dk_at dksX4_lowestOn_0 3 rfl rfl)
theorem dX4_lowestOn_4 : decode cX4_lowestOn 4 = .ok (.getfield 9, 3) := dk_180 0 9 (dk_at dksX4_lowestOn_0 4 rfl rfl)
theorem dX4_lowestOn_7 : decode cX4_lowestOn 7 = .ok (.iconst 2, 1) := dk_5 (dk_at dksX4_lowestOn_0 7 rfl rfl)
theorem dX4_lowestOn_8 : decode cX4_lowestOn 8 = .ok (.iaload, 1) := dk_46 (dk_at dksX4_lowestOn_0 8 rfl rfl)
theorem dX4_lowestOn_9 : decode cX4_lowestOn 9 = .ok (.if_icmp .ge 20, 3) := dk_162 0 20 (dk_at dksX4_lowestOn_0 9 rfl rfl)
theorem dX4_lowestOn_12 : decode cX4_lowestOn 12 = .ok (.aload_n 0, 1) := dk_42 (dk_at dksX4_lowestOn_0 12 rfl rfl)
theorem dX4_lowestOn_13 : decode cX4_lowestOn 13 = .ok (.iload_n 2, 1) := dk_28 (dk_at dksX4_lowestOn_0 13 rfl rfl)
theorem dX4_lowestOn_14 : decode cX4_lowestOn 14 = .ok (.iload_n 1, 1) := dk_27 (dk_at dksX4_lowestOn_0 14 rfl rfl)
theorem dX4_lowestOn_15 : decode cX4_lowestOn 15 = .ok (.invokevirtual 94, 3) := dk_182 0 94 (dk_at dksX4_lowestOn_0 15 rfl rfl)
theorem dX4_lowestOn_18 : decode cX4_lowestOn 18 = .ok (.ifCond .eq 5, 3) := dk_153 0 5 (dk_at dksX4_lowestOn_0 18 rfl rfl)
theorem dX4_lowestOn_21 : decode cX4_lowestOn 21 = .ok (.iload_n 2, 1) := dk_28 (dk_at dksX4_lowestOn_0 21 rfl rfl)
theorem dX4_lowestOn_22 : decode cX4_lowestOn 22 = .ok (.ireturn, 1) := dk_172 (dk_at dksX4_lowestOn_0 22 rfl rfl)
theorem dX4_lowestOn_23 : decode cX4_lowestOn 23 = .ok (.iinc 2 1, 3) := dk_132 2 1 (dk_at dksX4_lowestOn_1 0 rfl rfl)
theorem dX4_lowestOn_26 : decode cX4_lowestOn 26 = .ok (.goto (-24), 3) := dk_167 255 232 (dk_at dksX4_lowestOn_1 3 rfl rfl)
theorem dX4_lowestOn_29 : decode cX4_lowestOn 29 = .ok (.iconst (-1), 1) := dk_2 (dk_at dksX4_lowestOn_1 6 rfl rfl)
theorem dX4_lowestOn_30 : decode cX4_lowestOn 30 = .ok (.ireturn, 1) := dk_172 (dk_at dksX4_lowestOn_1 7 rfl rfl)
abbrev cX4_isOn : ByteArray := prog_17_method_21_code
def yX4_isOn : MethodName := ⟨RX4, "isOn", "(II)Z"⟩
def dkwX4_isOn_1 : List UInt8 := [96, 46, 28, 160, 0, 7, 4, 167, 0, 4, 3, 172]
abbrev dktX4_isOn_1 : List UInt8 := dkwX4_isOn_1 ++ []
def dkwX4_isOn_0 : List UInt8 := [42, 180, 0, 9, 27, 184, 0, 91, 5, 96, 46, 4, 160, 0, 22, 42, 180, 0, 9, 27, 184, 0, 91, 6]
abbrev dktX4_isOn_0 : List UInt8 := dkwX4_isOn_0 ++ dktX4_isOn_1
theorem dksX4_isOn_0 : cX4_isOn.data.toList.drop 0 = dktX4_isOn_0 := by decide +kernel
theorem dksX4_isOn_1 : cX4_isOn.data.toList.drop 24 = dktX4_isOn_1 := dk_seg dksX4_isOn_0 24 rfl rfl
theorem dX4_isOn_0 : decode cX4_isOn 0 = .ok (.aload_n 0, 1) := dk_42 (dk_at dksX4_isOn_0 0 rfl rfl)
theorem dX4_isOn_1 : decode cX4_isOn 1 = .ok (.getfield 9, 3) := dk_180 0 9 (dk_at dksX4_isOn_0 1 rfl rfl)
theorem dX4_isOn_4 : decode cX4_isOn 4 = .ok (.iload_n 1, 1) := dk_27 (dk_at dksX4_isOn_0 4 rfl rfl)
theorem dX4_isOn_5 : decode cX4_isOn 5 = .ok (.invokestatic 91, 3) := dk_184 0 91 (dk_at dksX4_isOn_0 5 rfl rfl)
theorem dX4_isOn_8 : decode cX4_isOn 8 = .ok (.iconst 2, 1) := dk_5 (dk_at dksX4_isOn_0 8 rfl rfl)
theorem dX4_isOn_9 : decode cX4_isOn 9 = .ok (.iadd, 1) := dk_96 (dk_at dksX4_isOn_0 9 rfl rfl)
theorem dX4_isOn_10 : decode cX4_isOn 10 = .ok (.iaload, 1) := dk_46 (dk_at dksX4_isOn_0 10 rfl rfl)
theorem dX4_isOn_11 : decode cX4_isOn 11 = .ok (.iconst 1, 1) := dk_4 (dk_at dksX4_isOn_0 11 rfl rfl)
theorem dX4_isOn_12 : decode cX4_isOn 12 = .ok (.if_icmp .ne 22, 3) := dk_160 0 22 (dk_at dksX4_isOn_0 12 rfl rfl)
theorem dX4_isOn_15 : decode cX4_isOn 15 = .ok (.aload_n 0, 1) := dk_42 (dk_at dksX4_isOn_0 15 rfl rfl)
theorem dX4_isOn_16 : decode cX4_isOn 16 = .ok (.getfield 9, 3) := dk_180 0 9 (dk_at dksX4_isOn_0 16 rfl rfl)
theorem dX4_isOn_19 : decode cX4_isOn 19 = .ok (.iload_n 1, 1) := dk_27 (dk_at dksX4_isOn_0 19 rfl rfl)
theorem dX4_isOn_20 : decode cX4_isOn 20 = .ok (.invokestatic 91, 3) := dk_184 0 91 (dk_at dksX4_isOn_0 20 rfl rfl)
theorem dX4_isOn_23 : decode cX4_isOn 23 = .ok (.iconst 3, 1) := dk_6 (dk_at dksX4_isOn_0 23 rfl rfl)
theorem dX4_isOn_24 : decode cX4_isOn 24 = .ok (.iadd, 1) := dk_96 (dk_at dksX4_isOn_1 0 rfl rfl)
theorem dX4_isOn_25 : decode cX4_isOn 25 = .ok (.iaload, 1) := dk_46 (dk_at dksX4_isOn_1 1 rfl rfl)
theorem dX4_isOn_26 : decode cX4_isOn 26 = .ok (.iload_n 2, 1) := dk_28 (dk_at dksX4_isOn_1 2 rfl rfl)
theorem dX4_isOn_27 : decode cX4_isOn 27 = .ok (.if_icmp .ne 7, 3) := dk_160 0 7 (dk_at dksX4_isOn_1 3 rfl rfl)
theorem dX4_isOn_30 : decode cX4_isOn 30 = .ok (.iconst 1, 1) := dk_4 (dk_at dksX4_isOn_1 6 rfl rfl)
theorem dX4_isOn_31 : decode cX4_isOn 31 = .ok (.goto 4, 3) := dk_167 0 4 (dk_at dksX4_isOn_1 7 rfl rfl)
theorem dX4_isOn_34 : decode cX4_isOn 34 = .ok (.iconst 0, 1) := dk_3 (dk_at dksX4_isOn_1 10 rfl rfl)
theorem dX4_isOn_35 : decode cX4_isOn 35 = .ok (.ireturn, 1) := dk_172 (dk_at dksX4_isOn_1 11 rfl rfl)
abbrev cX4_at0 : ByteArray := prog_17_method_10_code
def yX4_at0 : MethodName := ⟨RX4, "at0", "(I)I"⟩
def dkwX4_at0_0 : List UInt8 := [16, 68, 16, 7, 26, 104, 96, 172]
abbrev dktX4_at0_0 : List UInt8 := dkwX4_at0_0 ++ []
theorem dksX4_at0_0 : cX4_at0.data.toList.drop 0 = dktX4_at0_0 := by decide +kernel
theorem dX4_at0_0 : decode cX4_at0 0 = .ok (.bipush 68, 2) := dk_16 68 (dk_at dksX4_at0_0 0 rfl rfl)
theorem dX4_at0_2 : decode cX4_at0 2 = .ok (.bipush 7, 2) := dk_16 7 (dk_at dksX4_at0_0 2 rfl rfl)
theorem dX4_at0_4 : decode cX4_at0 4 = .ok (.iload_n 0, 1) := dk_26 (dk_at dksX4_at0_0 4 rfl rfl)
theorem dX4_at0_5 : decode cX4_at0 5 = .ok (.imul, 1) := dk_104 (dk_at dksX4_at0_0 5 rfl rfl)
theorem dX4_at0_6 : decode cX4_at0 6 = .ok (.iadd, 1) := dk_96 (dk_at dksX4_at0_0 6 rfl rfl)
theorem dX4_at0_7 : decode cX4_at0 7 = .ok (.ireturn, 1) := dk_172 (dk_at dksX4_at0_0 7 rfl rfl)
abbrev cX4_bears : ByteArray := prog_17_method_19_code
def yX4_bears : MethodName := ⟨RX4, "bears", "(I)I"⟩
def dkwX4_bears_0 : List UInt8 := [16, 12, 16, 8, 42, 27, 182, 0, 88, 100, 104, 172]
abbrev dktX4_bears_0 : List UInt8 := dkwX4_bears_0 ++ []
theorem dksX4_bears_0 : cX4_bears.data.toList.drop 0 = dktX4_bears_0 := by decide +kernel
theorem dX4_bears_0 : decode cX4_bears 0 = .ok (.bipush 12, 2) := dk_16 12 (dk_at dksX4_bears_0 0 rfl rfl)
theorem dX4_bears_2 : decode cX4_bears 2 = .ok (.bipush 8, 2) := dk_16 8 (dk_at dksX4_bears_0 2 rfl rfl)
theorem dX4_bears_4 : decode cX4_bears 4 = .ok (.aload_n 0, 1) := dk_42 (dk_at dksX4_bears_0 4 rfl rfl)
theorem dX4_bears_5 : decode cX4_bears 5 = .ok (.iload_n 1, 1) := dk_27 (dk_at dksX4_bears_0 5 rfl rfl)
theorem dX4_bears_6 : decode cX4_bears 6 = .ok (.invokevirtual 88, 3) := dk_182 0 88 (dk_at dksX4_bears_0 6 rfl rfl)
theorem dX4_bears_9 : decode cX4_bears 9 = .ok (.isub, 1) := dk_100 (dk_at dksX4_bears_0 9 rfl rfl)
theorem dX4_bears_10 : decode cX4_bears 10 = .ok (.imul, 1) := dk_104 (dk_at dksX4_bears_0 10 rfl rfl)
theorem dX4_bears_11 : decode cX4_bears 11 = .ok (.ireturn, 1) := dk_172 (dk_at dksX4_bears_0 11 rfl rfl)
abbrev cX4_broken : ByteArray := prog_17_method_18_code
def yX4_broken : MethodName := ⟨RX4, "broken", "(I)I"⟩
def dkwX4_broken_1 : List UInt8 := [160, 0, 7, 4, 167, 0, 4, 3, 96, 61, 132, 3, 1, 167, 255, 223, 28, 172]
abbrev dktX4_broken_1 : List UInt8 := dkwX4_broken_1 ++ []
def dkwX4_broken_0 : List UInt8 := [3, 61, 3, 62, 29, 16, 8, 162, 0, 33, 28, 42, 180, 0, 9, 27, 184, 0, 82, 29, 96, 46, 16, 9]
abbrev dktX4_broken_0 : List UInt8 := dkwX4_broken_0 ++ dktX4_broken_1
theorem dksX4_broken_0 : cX4_broken.data.toList.drop 0 = dktX4_broken_0 := by decide +kernel
theorem dksX4_broken_1 : cX4_broken.data.toList.drop 24 = dktX4_broken_1 := dk_seg dksX4_broken_0 24 rfl rfl
theorem dX4_broken_0 : decode cX4_broken 0 = .ok (.iconst 0, 1) := dk_3 (dk_at dksX4_broken_0 0 rfl rfl)
theorem dX4_broken_1 : decode cX4_broken 1 = .ok (.istore_n 2, 1) := dk_61 (dk_at dksX4_broken_0 1 rfl rfl)
theorem dX4_broken_2 : decode cX4_broken 2 = .ok (.iconst 0, 1) := dk_3 (dk_at dksX4_broken_0 2 rfl rfl)
theorem dX4_broken_3 : decode cX4_broken 3 = .ok (.istore_n 3, 1) := dk_62 (dk_at dksX4_broken_0 3 rfl rfl)
theorem dX4_broken_4 : decode cX4_broken 4 = .ok (.iload_n 3, 1) := dk_29 (dk_at dksX4_broken_0 4 rfl rfl)
theorem dX4_broken_5 : decode cX4_broken 5 = .ok (.bipush 8, 2) := dk_16 8 (dk_at dksX4_broken_0 5 rfl rfl)
theorem dX4_broken_7 : decode cX4_broken 7 = .ok (.if_icmp .ge 33, 3) := dk_162 0 33 (dk_at dksX4_broken_0 7 rfl rfl)
theorem dX4_broken_10 : decode cX4_broken 10 = .ok (.iload_n 2, 1) := dk_28 (dk_at dksX4_broken_0 10 rfl rfl)
theorem dX4_broken_11 : decode cX4_broken 11 = .ok (.aload_n 0, 1) := dk_42 (dk_at dksX4_broken_0 11 rfl rfl)
theorem dX4_broken_12 : decode cX4_broken 12 = .ok (.getfield 9, 3) := dk_180 0 9 (dk_at dksX4_broken_0 12 rfl rfl)
theorem dX4_broken_15 : decode cX4_broken 15 = .ok (.iload_n 1, 1) := dk_27 (dk_at dksX4_broken_0 15 rfl rfl)
theorem dX4_broken_16 : decode cX4_broken 16 = .ok (.invokestatic 82, 3) := dk_184 0 82 (dk_at dksX4_broken_0 16 rfl rfl)
theorem dX4_broken_19 : decode cX4_broken 19 = .ok (.iload_n 3, 1) := dk_29 (dk_at dksX4_broken_0 19 rfl rfl)
theorem dX4_broken_20 : decode cX4_broken 20 = .ok (.iadd, 1) := dk_96 (dk_at dksX4_broken_0 20 rfl rfl)
theorem dX4_broken_21 : decode cX4_broken 21 = .ok (.iaload, 1) := dk_46 (dk_at dksX4_broken_0 21 rfl rfl)
theorem dX4_broken_22 : decode cX4_broken 22 = .ok (.bipush 9, 2) := dk_16 9 (dk_at dksX4_broken_0 22 rfl rfl)
theorem dX4_broken_24 : decode cX4_broken 24 = .ok (.if_icmp .ne 7, 3) := dk_160 0 7 (dk_at dksX4_broken_1 0 rfl rfl)
theorem dX4_broken_27 : decode cX4_broken 27 = .ok (.iconst 1, 1) := dk_4 (dk_at dksX4_broken_1 3 rfl rfl)
theorem dX4_broken_28 : decode cX4_broken 28 = .ok (.goto 4, 3) := dk_167 0 4 (dk_at dksX4_broken_1 4 rfl rfl)
theorem dX4_broken_31 : decode cX4_broken 31 = .ok (.iconst 0, 1) := dk_3 (dk_at dksX4_broken_1 7 rfl rfl)
theorem dX4_broken_32 : decode cX4_broken 32 = .ok (.iadd, 1) := dk_96 (dk_at dksX4_broken_1 8 rfl rfl)
theorem dX4_broken_33 : decode cX4_broken 33 = .ok (.istore_n 2, 1) := dk_61 (dk_at dksX4_broken_1 9 rfl rfl)
theorem dX4_broken_34 : decode cX4_broken 34 = .ok (.iinc 3 1, 3) := dk_132 3 1 (dk_at dksX4_broken_1 10 rfl rfl)
theorem dX4_broken_37 : decode cX4_broken 37 = .ok (.goto (-33), 3) := dk_167 255 223 (dk_at dksX4_broken_1 13 rfl rfl)
theorem dX4_broken_40 : decode cX4_broken 40 = .ok (.iload_n 2, 1) := dk_28 (dk_at dksX4_broken_1 16 rfl rfl)
theorem dX4_broken_41 : decode cX4_broken 41 = .ok (.ireturn, 1) := dk_172 (dk_at dksX4_broken_1 17 rfl rfl)
abbrev cX4_open : ByteArray := prog_17_method_28_code
def yX4_open : MethodName := ⟨RX4, "open", "(I)I"⟩
def dkwX4_open_0 : List UInt8 := [42, 182, 0, 79, 42, 42, 27, 182, 0, 114, 182, 0, 85, 172]
abbrev dktX4_open_0 : List UInt8 := dkwX4_open_0 ++ []
theorem dksX4_open_0 : cX4_open.data.toList.drop 0 = dktX4_open_0 := by decide +kernel
theorem dX4_open_0 : decode cX4_open 0 = .ok (.aload_n 0, 1) := dk_42 (dk_at dksX4_open_0 0 rfl rfl)
theorem dX4_open_1 : decode cX4_open 1 = .ok (.invokevirtual 79, 3) := dk_182 0 79 (dk_at dksX4_open_0 1 rfl rfl)
theorem dX4_open_4 : decode cX4_open 4 = .ok (.aload_n 0, 1) := dk_42 (dk_at dksX4_open_0 4 rfl rfl)
theorem dX4_open_5 : decode cX4_open 5 = .ok (.aload_n 0, 1) := dk_42 (dk_at dksX4_open_0 5 rfl rfl)
theorem dX4_open_6 : decode cX4_open 6 = .ok (.iload_n 1, 1) := dk_27 (dk_at dksX4_open_0 6 rfl rfl)
theorem dX4_open_7 : decode cX4_open 7 = .ok (.invokevirtual 114, 3) := dk_182 0 114 (dk_at dksX4_open_0 7 rfl rfl)
theorem dX4_open_10 : decode cX4_open 10 = .ok (.invokevirtual 85, 3) := dk_182 0 85 (dk_at dksX4_open_0 10 rfl rfl)
theorem dX4_open_13 : decode cX4_open 13 = .ok (.ireturn, 1) := dk_172 (dk_at dksX4_open_0 13 rfl rfl)
abbrev cX4_openIt : ByteArray := prog_17_method_27_code
def yX4_openIt : MethodName := ⟨RX4, "openIt", "(I)I"⟩
def dkwX4_openIt_2 : List UInt8 := [16, 8, 96, 4, 79, 42, 27, 182, 0, 107, 172]
abbrev dktX4_openIt_2 : List UInt8 := dkwX4_openIt_2 ++ []
def dkwX4_openIt_1 : List UInt8 := [96, 46, 4, 160, 0, 12, 42, 5, 16, 14, 27, 182, 0, 64, 172, 42, 180, 0, 9, 27, 184, 0, 82]
abbrev dktX4_openIt_1 : List UInt8 := dkwX4_openIt_1 ++ dktX4_openIt_2
def dkwX4_openIt_0 : List UInt8 := [42, 27, 182, 0, 98, 154, 0, 9, 42, 4, 182, 0, 60, 172, 42, 180, 0, 9, 27, 184, 0, 82, 16, 8]
abbrev dktX4_openIt_0 : List UInt8 := dkwX4_openIt_0 ++ dktX4_openIt_1
theorem dksX4_openIt_0 : cX4_openIt.data.toList.drop 0 = dktX4_openIt_0 := by decide +kernel
theorem dksX4_openIt_1 : cX4_openIt.data.toList.drop 24 = dktX4_openIt_1 := dk_seg dksX4_openIt_0 24 rfl rfl
theorem dksX4_openIt_2 : cX4_openIt.data.toList.drop 47 = dktX4_openIt_2 := dk_seg dksX4_openIt_1 23 rfl rfl
theorem dX4_openIt_0 : decode cX4_openIt 0 = .ok (.aload_n 0, 1) := dk_42 (dk_at dksX4_openIt_0 0 rfl rfl)
theorem dX4_openIt_1 : decode cX4_openIt 1 = .ok (.iload_n 1, 1) := dk_27 (dk_at dksX4_openIt_0 1 rfl rfl)
theorem dX4_openIt_2 : decode cX4_openIt 2 = .ok (.invokevirtual 98, 3) := dk_182 0 98 (dk_at dksX4_openIt_0 2 rfl rfl)
theorem dX4_openIt_5 : decode cX4_openIt 5 = .ok (.ifCond .ne 9, 3) := dk_154 0 9 (dk_at dksX4_openIt_0 5 rfl rfl)
theorem dX4_openIt_8 : decode cX4_openIt 8 = .ok (.aload_n 0, 1) := dk_42 (dk_at dksX4_openIt_0 8 rfl rfl)
theorem dX4_openIt_9 : decode cX4_openIt 9 = .ok (.iconst 1, 1) := dk_4 (dk_at dksX4_openIt_0 9 rfl rfl)
theorem dX4_openIt_10 : decode cX4_openIt 10 = .ok (.invokevirtual 60, 3) := dk_182 0 60 (dk_at dksX4_openIt_0 10 rfl rfl)
theorem dX4_openIt_13 : decode cX4_openIt 13 = .ok (.ireturn, 1) := dk_172 (dk_at dksX4_openIt_0 13 rfl rfl)
theorem dX4_openIt_14 : decode cX4_openIt 14 = .ok (.aload_n 0, 1) := dk_42 (dk_at dksX4_openIt_0 14 rfl rfl)
theorem dX4_openIt_15 : decode cX4_openIt 15 = .ok (.getfield 9, 3) := dk_180 0 9 (dk_at dksX4_openIt_0 15 rfl rfl)
theorem dX4_openIt_18 : decode cX4_openIt 18 = .ok (.iload_n 1, 1) := dk_27 (dk_at dksX4_openIt_0 18 rfl rfl)
theorem dX4_openIt_19 : decode cX4_openIt 19 = .ok (.invokestatic 82, 3) := dk_184 0 82 (dk_at dksX4_openIt_0 19 rfl rfl)
theorem dX4_openIt_22 : decode cX4_openIt 22 = .ok (.bipush 8, 2) := dk_16 8 (dk_at dksX4_openIt_0 22 rfl rfl)
theorem dX4_openIt_24 : decode cX4_openIt 24 = .ok (.iadd, 1) := dk_96 (dk_at dksX4_openIt_1 0 rfl rfl)
theorem dX4_openIt_25 : decode cX4_openIt 25 = .ok (.iaload, 1) := dk_46 (dk_at dksX4_openIt_1 1 rfl rfl)
theorem dX4_openIt_26 : decode cX4_openIt 26 = .ok (.iconst 1, 1) := dk_4 (dk_at dksX4_openIt_1 2 rfl rfl)
theorem dX4_openIt_27 : decode cX4_openIt 27 = .ok (.if_icmp .ne 12, 3) := dk_160 0 12 (dk_at dksX4_openIt_1 3 rfl rfl)
theorem dX4_openIt_30 : decode cX4_openIt 30 = .ok (.aload_n 0, 1) := dk_42 (dk_at dksX4_openIt_1 6 rfl rfl)
theorem dX4_openIt_31 : decode cX4_openIt 31 = .ok (.iconst 2, 1) := dk_5 (dk_at dksX4_openIt_1 7 rfl rfl)
theorem dX4_openIt_32 : decode cX4_openIt 32 = .ok (.bipush 14, 2) := dk_16 14 (dk_at dksX4_openIt_1 8 rfl rfl)
theorem dX4_openIt_34 : decode cX4_openIt 34 = .ok (.iload_n 1, 1) := dk_27 (dk_at dksX4_openIt_1 10 rfl rfl)
theorem dX4_openIt_35 : decode cX4_openIt 35 = .ok (.invokevirtual 64, 3) := dk_182 0 64 (dk_at dksX4_openIt_1 11 rfl rfl)
theorem dX4_openIt_38 : decode cX4_openIt 38 = .ok (.ireturn, 1) := dk_172 (dk_at dksX4_openIt_1 14 rfl rfl)
theorem dX4_openIt_39 : decode cX4_openIt 39 = .ok (.aload_n 0, 1) := dk_42 (dk_at dksX4_openIt_1 15 rfl rfl)
theorem dX4_openIt_40 : decode cX4_openIt 40 = .ok (.getfield 9, 3) := dk_180 0 9 (dk_at dksX4_openIt_1 16 rfl rfl)
theorem dX4_openIt_43 : decode cX4_openIt 43 = .ok (.iload_n 1, 1) := dk_27 (dk_at dksX4_openIt_1 19 rfl rfl)
theorem dX4_openIt_44 : decode cX4_openIt 44 = .ok (.invokestatic 82, 3) := dk_184 0 82 (dk_at dksX4_openIt_1 20 rfl rfl)
theorem dX4_openIt_47 : decode cX4_openIt 47 = .ok (.bipush 8, 2) := dk_16 8 (dk_at dksX4_openIt_2 0 rfl rfl)
theorem dX4_openIt_49 : decode cX4_openIt 49 = .ok (.iadd, 1) := dk_96 (dk_at dksX4_openIt_2 2 rfl rfl)
theorem dX4_openIt_50 : decode cX4_openIt 50 = .ok (.iconst 1, 1) := dk_4 (dk_at dksX4_openIt_2 3 rfl rfl)
theorem dX4_openIt_51 : decode cX4_openIt 51 = .ok (.iastore, 1) := dk_79 (dk_at dksX4_openIt_2 4 rfl rfl)
theorem dX4_openIt_52 : decode cX4_openIt 52 = .ok (.aload_n 0, 1) := dk_42 (dk_at dksX4_openIt_2 5 rfl rfl)
theorem dX4_openIt_53 : decode cX4_openIt 53 = .ok (.iload_n 1, 1) := dk_27 (dk_at dksX4_openIt_2 6 rfl rfl)
theorem dX4_openIt_54 : decode cX4_openIt 54 = .ok (.invokevirtual 107, 3) := dk_182 0 107 (dk_at dksX4_openIt_2 7 rfl rfl)
theorem dX4_openIt_57 : decode cX4_openIt 57 = .ok (.ireturn, 1) := dk_172 (dk_at dksX4_openIt_2 10 rfl rfl)
abbrev cX4_matOf : ByteArray := prog_17_method_29_code
def yX4_matOf : MethodName := ⟨RX4, "matOf", "(II)I"⟩
def dkwX4_matOf_5 : List UInt8 := [172]
abbrev dktX4_matOf_5 : List UInt8 := dkwX4_matOf_5 ++ []
def dkwX4_matOf_4 : List UInt8 := [42, 27, 182, 0, 124, 172, 42, 180, 0, 9, 27, 184, 0, 82, 16, 9, 96, 46, 172, 42, 5, 182, 0, 60]
abbrev dktX4_matOf_4 : List UInt8 := dkwX4_matOf_4 ++ dktX4_matOf_5
def dkwX4_matOf_3 : List UInt8 := [184, 0, 82, 16, 8, 96, 46, 172, 42, 27, 28, 8, 160, 0, 7, 4, 167, 0, 4, 3, 182, 0, 120, 172]
abbrev dktX4_matOf_3 : List UInt8 := dkwX4_matOf_3 ++ dktX4_matOf_4
def dkwX4_matOf_2 : List UInt8 := [42, 27, 182, 0, 107, 172, 42, 27, 182, 0, 88, 172, 42, 27, 182, 0, 117, 172, 42, 180, 0, 9, 27]
abbrev dktX4_matOf_2 : List UInt8 := dkwX4_matOf_2 ++ dktX4_matOf_3
def dkwX4_matOf_1 : List UInt8 := [170, 0, 0, 0, 0, 0, 0, 114, 0, 0, 0, 0, 0, 0, 0, 7, 0, 0, 0, 48, 0, 0, 0, 54, 0, 0, 0, 60, 0, 0, 0, 66, 0, 0, 0, 79, 0, 0, 0, 79, 0, 0, 0, 95, 0, 0, 0, 101]
abbrev dktX4_matOf_1 : List UInt8 := dkwX4_matOf_1 ++ dktX4_matOf_2
def dkwX4_matOf_0 : List UInt8 := [42, 3, 181, 0, 54, 42, 27, 182, 0, 98, 154, 0, 9, 42, 4, 182, 0, 60, 172, 28]
abbrev dktX4_matOf_0 : List UInt8 := dkwX4_matOf_0 ++ dktX4_matOf_1
theorem dksX4_matOf_0 : cX4_matOf.data.toList.drop 0 = dktX4_matOf_0 := by decide +kernel
theorem dksX4_matOf_1 : cX4_matOf.data.toList.drop 20 = dktX4_matOf_1 := dk_seg dksX4_matOf_0 20 rfl rfl
theorem dksX4_matOf_2 : cX4_matOf.data.toList.drop 68 = dktX4_matOf_2 := dk_seg dksX4_matOf_1 48 rfl rfl
theorem dksX4_matOf_3 : cX4_matOf.data.toList.drop 91 = dktX4_matOf_3 := dk_seg dksX4_matOf_2 23 rfl rfl
theorem dksX4_matOf_4 : cX4_matOf.data.toList.drop 115 = dktX4_matOf_4 := dk_seg dksX4_matOf_3 24 rfl rfl
theorem dksX4_matOf_5 : cX4_matOf.data.toList.drop 139 = dktX4_matOf_5 := dk_seg dksX4_matOf_4 24 rfl rfl
theorem dX4_matOf_0 : decode cX4_matOf 0 = .ok (.aload_n 0, 1) := dk_42 (dk_at dksX4_matOf_0 0 rfl rfl)
theorem dX4_matOf_1 : decode cX4_matOf 1 = .ok (.iconst 0, 1) := dk_3 (dk_at dksX4_matOf_0 1 rfl rfl)
theorem dX4_matOf_2 : decode cX4_matOf 2 = .ok (.putfield 54, 3) := dk_181 0 54 (dk_at dksX4_matOf_0 2 rfl rfl)
theorem dX4_matOf_5 : decode cX4_matOf 5 = .ok (.aload_n 0, 1) := dk_42 (dk_at dksX4_matOf_0 5 rfl rfl)
theorem dX4_matOf_6 : decode cX4_matOf 6 = .ok (.iload_n 1, 1) := dk_27 (dk_at dksX4_matOf_0 6 rfl rfl)
theorem dX4_matOf_7 : decode cX4_matOf 7 = .ok (.invokevirtual 98, 3) := dk_182 0 98 (dk_at dksX4_matOf_0 7 rfl rfl)
theorem dX4_matOf_10 : decode cX4_matOf 10 = .ok (.ifCond .ne 9, 3) := dk_154 0 9 (dk_at dksX4_matOf_0 10 rfl rfl)
theorem dX4_matOf_13 : decode cX4_matOf 13 = .ok (.aload_n 0, 1) := dk_42 (dk_at dksX4_matOf_0 13 rfl rfl)
theorem dX4_matOf_14 : decode cX4_matOf 14 = .ok (.iconst 1, 1) := dk_4 (dk_at dksX4_matOf_0 14 rfl rfl)
theorem dX4_matOf_15 : decode cX4_matOf 15 = .ok (.invokevirtual 60, 3) := dk_182 0 60 (dk_at dksX4_matOf_0 15 rfl rfl)
theorem dX4_matOf_18 : decode cX4_matOf 18 = .ok (.ireturn, 1) := dk_172 (dk_at dksX4_matOf_0 18 rfl rfl)
theorem dX4_matOf_19 : decode cX4_matOf 19 = .ok (.iload_n 2, 1) := dk_28 (dk_at dksX4_matOf_0 19 rfl rfl)
theorem dX4_matOf_20 : decode cX4_matOf 20 = .ok (.tableswitch 114 0 7 #[48, 54, 60, 66, 79, 79, 95, 101], 48) := by decide +kernel
theorem dX4_matOf_68 : decode cX4_matOf 68 = .ok (.aload_n 0, 1) := dk_42 (dk_at dksX4_matOf_2 0 rfl rfl)
theorem dX4_matOf_69 : decode cX4_matOf 69 = .ok (.iload_n 1, 1) := dk_27 (dk_at dksX4_matOf_2 1 rfl rfl)
theorem dX4_matOf_70 : decode cX4_matOf 70 = .ok (.invokevirtual 107, 3) := dk_182 0 107 (dk_at dksX4_matOf_2 2 rfl rfl)
theorem dX4_matOf_73 : decode cX4_matOf 73 = .ok (.ireturn, 1) := dk_172 (dk_at dksX4_matOf_2 5 rfl rfl)
theorem dX4_matOf_74 : decode cX4_matOf 74 = .ok (.aload_n 0, 1) := dk_42 (dk_at dksX4_matOf_2 6 rfl rfl)
theorem dX4_matOf_75 : decode cX4_matOf 75 = .ok (.iload_n 1, 1) := dk_27 (dk_at dksX4_matOf_2 7 rfl rfl)
theorem dX4_matOf_76 : decode cX4_matOf 76 = .ok (.invokevirtual 88, 3) := dk_182 0 88 (dk_at dksX4_matOf_2 8 rfl rfl)
theorem dX4_matOf_79 : decode cX4_matOf 79 = .ok (.ireturn, 1) := dk_172 (dk_at dksX4_matOf_2 11 rfl rfl)
theorem dX4_matOf_80 : decode cX4_matOf 80 = .ok (.aload_n 0, 1) := dk_42 (dk_at dksX4_matOf_2 12 rfl rfl)
theorem dX4_matOf_81 : decode cX4_matOf 81 = .ok (.iload_n 1, 1) := dk_27 (dk_at dksX4_matOf_2 13 rfl rfl)
theorem dX4_matOf_82 : decode cX4_matOf 82 = .ok (.invokevirtual 117, 3) := dk_182 0 117 (dk_at dksX4_matOf_2 14 rfl rfl)
theorem dX4_matOf_85 : decode cX4_matOf 85 = .ok (.ireturn, 1) := dk_172 (dk_at dksX4_matOf_2 17 rfl rfl)
theorem dX4_matOf_86 : decode cX4_matOf 86 = .ok (.aload_n 0, 1) := dk_42 (dk_at dksX4_matOf_2 18 rfl rfl)
theorem dX4_matOf_87 : decode cX4_matOf 87 = .ok (.getfield 9, 3) := dk_180 0 9 (dk_at dksX4_matOf_2 19 rfl rfl)
theorem dX4_matOf_90 : decode cX4_matOf 90 = .ok (.iload_n 1, 1) := dk_27 (dk_at dksX4_matOf_2 22 rfl rfl)
theorem dX4_matOf_91 : decode cX4_matOf 91 = .ok (.invokestatic 82, 3) := dk_184 0 82 (dk_at dksX4_matOf_3 0 rfl rfl)
theorem dX4_matOf_94 : decode cX4_matOf 94 = .ok (.bipush 8, 2) := dk_16 8 (dk_at dksX4_matOf_3 3 rfl rfl)
theorem dX4_matOf_96 : decode cX4_matOf 96 = .ok (.iadd, 1) := dk_96 (dk_at dksX4_matOf_3 5 rfl rfl)
theorem dX4_matOf_97 : decode cX4_matOf 97 = .ok (.iaload, 1) := dk_46 (dk_at dksX4_matOf_3 6 rfl rfl)
theorem dX4_matOf_98 : decode cX4_matOf 98 = .ok (.ireturn, 1) := dk_172 (dk_at dksX4_matOf_3 7 rfl rfl)
theorem dX4_matOf_99 : decode cX4_matOf 99 = .ok (.aload_n 0, 1) := dk_42 (dk_at dksX4_matOf_3 8 rfl rfl)
theorem dX4_matOf_100 : decode cX4_matOf 100 = .ok (.iload_n 1, 1) := dk_27 (dk_at dksX4_matOf_3 9 rfl rfl)
theorem dX4_matOf_101 : decode cX4_matOf 101 = .ok (.iload_n 2, 1) := dk_28 (dk_at dksX4_matOf_3 10 rfl rfl)
theorem dX4_matOf_102 : decode cX4_matOf 102 = .ok (.iconst 5, 1) := dk_8 (dk_at dksX4_matOf_3 11 rfl rfl)
theorem dX4_matOf_103 : decode cX4_matOf 103 = .ok (.if_icmp .ne 7, 3) := dk_160 0 7 (dk_at dksX4_matOf_3 12 rfl rfl)
theorem dX4_matOf_106 : decode cX4_matOf 106 = .ok (.iconst 1, 1) := dk_4 (dk_at dksX4_matOf_3 15 rfl rfl)
theorem dX4_matOf_107 : decode cX4_matOf 107 = .ok (.goto 4, 3) := dk_167 0 4 (dk_at dksX4_matOf_3 16 rfl rfl)
theorem dX4_matOf_110 : decode cX4_matOf 110 = .ok (.iconst 0, 1) := dk_3 (dk_at dksX4_matOf_3 19 rfl rfl)
theorem dX4_matOf_111 : decode cX4_matOf 111 = .ok (.invokevirtual 120, 3) := dk_182 0 120 (dk_at dksX4_matOf_3 20 rfl rfl)
theorem dX4_matOf_114 : decode cX4_matOf 114 = .ok (.ireturn, 1) := dk_172 (dk_at dksX4_matOf_3 23 rfl rfl)
theorem dX4_matOf_115 : decode cX4_matOf 115 = .ok (.aload_n 0, 1) := dk_42 (dk_at dksX4_matOf_4 0 rfl rfl)
theorem dX4_matOf_116 : decode cX4_matOf 116 = .ok (.iload_n 1, 1) := dk_27 (dk_at dksX4_matOf_4 1 rfl rfl)
theorem dX4_matOf_117 : decode cX4_matOf 117 = .ok (.invokevirtual 124, 3) := dk_182 0 124 (dk_at dksX4_matOf_4 2 rfl rfl)
theorem dX4_matOf_120 : decode cX4_matOf 120 = .ok (.ireturn, 1) := dk_172 (dk_at dksX4_matOf_4 5 rfl rfl)
theorem dX4_matOf_121 : decode cX4_matOf 121 = .ok (.aload_n 0, 1) := dk_42 (dk_at dksX4_matOf_4 6 rfl rfl)
theorem dX4_matOf_122 : decode cX4_matOf 122 = .ok (.getfield 9, 3) := dk_180 0 9 (dk_at dksX4_matOf_4 7 rfl rfl)
theorem dX4_matOf_125 : decode cX4_matOf 125 = .ok (.iload_n 1, 1) := dk_27 (dk_at dksX4_matOf_4 10 rfl rfl)
theorem dX4_matOf_126 : decode cX4_matOf 126 = .ok (.invokestatic 82, 3) := dk_184 0 82 (dk_at dksX4_matOf_4 11 rfl rfl)
theorem dX4_matOf_129 : decode cX4_matOf 129 = .ok (.bipush 9, 2) := dk_16 9 (dk_at dksX4_matOf_4 14 rfl rfl)
theorem dX4_matOf_131 : decode cX4_matOf 131 = .ok (.iadd, 1) := dk_96 (dk_at dksX4_matOf_4 16 rfl rfl)
theorem dX4_matOf_132 : decode cX4_matOf 132 = .ok (.iaload, 1) := dk_46 (dk_at dksX4_matOf_4 17 rfl rfl)
theorem dX4_matOf_133 : decode cX4_matOf 133 = .ok (.ireturn, 1) := dk_172 (dk_at dksX4_matOf_4 18 rfl rfl)
theorem dX4_matOf_134 : decode cX4_matOf 134 = .ok (.aload_n 0, 1) := dk_42 (dk_at dksX4_matOf_4 19 rfl rfl)
theorem dX4_matOf_135 : decode cX4_matOf 135 = .ok (.iconst 2, 1) := dk_5 (dk_at dksX4_matOf_4 20 rfl rfl)
theorem dX4_matOf_136 : decode cX4_matOf 136 = .ok (.invokevirtual 60, 3) := dk_182 0 60 (dk_at dksX4_matOf_4 21 rfl rfl)
theorem dX4_matOf_139 : decode cX4_matOf 139 = .ok (.ireturn, 1) := dk_172 (dk_at dksX4_matOf_5 0 rfl rfl)
abbrev cX4_wears : ByteArray := prog_17_method_20_code
def yX4_wears : MethodName := ⟨RX4, "wears", "(I)I"⟩
def dkwX4_wears_1 : List UInt8 := [132, 3, 1, 167, 255, 233, 28, 172]
abbrev dktX4_wears_1 : List UInt8 := dkwX4_wears_1 ++ []
def dkwX4_wears_0 : List UInt8 := [3, 61, 3, 62, 29, 16, 8, 162, 0, 23, 28, 42, 180, 0, 9, 27, 184, 0, 82, 29, 96, 46, 96, 61]
abbrev dktX4_wears_0 : List UInt8 := dkwX4_wears_0 ++ dktX4_wears_1
theorem dksX4_wears_0 : cX4_wears.data.toList.drop 0 = dktX4_wears_0 := by decide +kernel
theorem dksX4_wears_1 : cX4_wears.data.toList.drop 24 = dktX4_wears_1 := dk_seg dksX4_wears_0 24 rfl rfl
theorem dX4_wears_0 : decode cX4_wears 0 = .ok (.iconst 0, 1) := dk_3 (dk_at dksX4_wears_0 0 rfl rfl)
theorem dX4_wears_1 : decode cX4_wears 1 = .ok (.istore_n 2, 1) := dk_61 (dk_at dksX4_wears_0 1 rfl rfl)
theorem dX4_wears_2 : decode cX4_wears 2 = .ok (.iconst 0, 1) := dk_3 (dk_at dksX4_wears_0 2 rfl rfl)
theorem dX4_wears_3 : decode cX4_wears 3 = .ok (.istore_n 3, 1) := dk_62 (dk_at dksX4_wears_0 3 rfl rfl)
theorem dX4_wears_4 : decode cX4_wears 4 = .ok (.iload_n 3, 1) := dk_29 (dk_at dksX4_wears_0 4 rfl rfl)
theorem dX4_wears_5 : decode cX4_wears 5 = .ok (.bipush 8, 2) := dk_16 8 (dk_at dksX4_wears_0 5 rfl rfl)
theorem dX4_wears_7 : decode cX4_wears 7 = .ok (.if_icmp .ge 23, 3) := dk_162 0 23 (dk_at dksX4_wears_0 7 rfl rfl)
theorem dX4_wears_10 : decode cX4_wears 10 = .ok (.iload_n 2, 1) := dk_28 (dk_at dksX4_wears_0 10 rfl rfl)
theorem dX4_wears_11 : decode cX4_wears 11 = .ok (.aload_n 0, 1) := dk_42 (dk_at dksX4_wears_0 11 rfl rfl)
theorem dX4_wears_12 : decode cX4_wears 12 = .ok (.getfield 9, 3) := dk_180 0 9 (dk_at dksX4_wears_0 12 rfl rfl)
theorem dX4_wears_15 : decode cX4_wears 15 = .ok (.iload_n 1, 1) := dk_27 (dk_at dksX4_wears_0 15 rfl rfl)
theorem dX4_wears_16 : decode cX4_wears 16 = .ok (.invokestatic 82, 3) := dk_184 0 82 (dk_at dksX4_wears_0 16 rfl rfl)
theorem dX4_wears_19 : decode cX4_wears 19 = .ok (.iload_n 3, 1) := dk_29 (dk_at dksX4_wears_0 19 rfl rfl)
theorem dX4_wears_20 : decode cX4_wears 20 = .ok (.iadd, 1) := dk_96 (dk_at dksX4_wears_0 20 rfl rfl)
theorem dX4_wears_21 : decode cX4_wears 21 = .ok (.iaload, 1) := dk_46 (dk_at dksX4_wears_0 21 rfl rfl)
theorem dX4_wears_22 : decode cX4_wears 22 = .ok (.iadd, 1) := dk_96 (dk_at dksX4_wears_0 22 rfl rfl)
theorem dX4_wears_23 : decode cX4_wears 23 = .ok (.istore_n 2, 1) := dk_61 (dk_at dksX4_wears_0 23 rfl rfl)
theorem dX4_wears_24 : decode cX4_wears 24 = .ok (.iinc 3 1, 3) := dk_132 3 1 (dk_at dksX4_wears_1 0 rfl rfl)
theorem dX4_wears_27 : decode cX4_wears 27 = .ok (.goto (-23), 3) := dk_167 255 233 (dk_at dksX4_wears_1 3 rfl rfl)
theorem dX4_wears_30 : decode cX4_wears 30 = .ok (.iload_n 2, 1) := dk_28 (dk_at dksX4_wears_1 6 rfl rfl)
theorem dX4_wears_31 : decode cX4_wears 31 = .ok (.ireturn, 1) := dk_172 (dk_at dksX4_wears_1 7 rfl rfl)
abbrev cX4_on : ByteArray := prog_17_method_22_code
def yX4_on : MethodName := ⟨RX4, "on", "(IZ)I"⟩
def dkwX4_on_2 : List UInt8 := [167, 0, 4, 4, 96, 62, 132, 4, 1, 167, 255, 205, 29, 172]
abbrev dktX4_on_2 : List UInt8 := dkwX4_on_2 ++ []
def dkwX4_on_1 : List UInt8 := [154, 0, 7, 3, 167, 0, 23, 28, 153, 0, 18, 42, 180, 0, 9, 21, 4, 184, 0, 91, 3, 96, 46]
abbrev dktX4_on_1 : List UInt8 := dkwX4_on_1 ++ dktX4_on_2
def dkwX4_on_0 : List UInt8 := [3, 62, 3, 54, 4, 21, 4, 42, 180, 0, 9, 5, 46, 162, 0, 46, 29, 42, 21, 4, 27, 182, 0, 94]
abbrev dktX4_on_0 : List UInt8 := dkwX4_on_0 ++ dktX4_on_1
theorem dksX4_on_0 : cX4_on.data.toList.drop 0 = dktX4_on_0 := by decide +kernel
theorem dksX4_on_1 : cX4_on.data.toList.drop 24 = dktX4_on_1 := dk_seg dksX4_on_0 24 rfl rfl
theorem dksX4_on_2 : cX4_on.data.toList.drop 47 = dktX4_on_2 := dk_seg dksX4_on_1 23 rfl rfl
theorem dX4_on_0 : decode cX4_on 0 = .ok (.iconst 0, 1) := dk_3 (dk_at dksX4_on_0 0 rfl rfl)
theorem dX4_on_1 : decode cX4_on 1 = .ok (.istore_n 3, 1) := dk_62 (dk_at dksX4_on_0 1 rfl rfl)
theorem dX4_on_2 : decode cX4_on 2 = .ok (.iconst 0, 1) := dk_3 (dk_at dksX4_on_0 2 rfl rfl)
theorem dX4_on_3 : decode cX4_on 3 = .ok (.istore 4, 2) := dk_54 4 (dk_at dksX4_on_0 3 rfl rfl)
theorem dX4_on_5 : decode cX4_on 5 = .ok (.iload 4, 2) := dk_21 4 (dk_at dksX4_on_0 5 rfl rfl)
theorem dX4_on_7 : decode cX4_on 7 = .ok (.aload_n 0, 1) := dk_42 (dk_at dksX4_on_0 7 rfl rfl)
theorem dX4_on_8 : decode cX4_on 8 = .ok (.getfield 9, 3) := dk_180 0 9 (dk_at dksX4_on_0 8 rfl rfl)
theorem dX4_on_11 : decode cX4_on 11 = .ok (.iconst 2, 1) := dk_5 (dk_at dksX4_on_0 11 rfl rfl)
theorem dX4_on_12 : decode cX4_on 12 = .ok (.iaload, 1) := dk_46 (dk_at dksX4_on_0 12 rfl rfl)
theorem dX4_on_13 : decode cX4_on 13 = .ok (.if_icmp .ge 46, 3) := dk_162 0 46 (dk_at dksX4_on_0 13 rfl rfl)
theorem dX4_on_16 : decode cX4_on 16 = .ok (.iload_n 3, 1) := dk_29 (dk_at dksX4_on_0 16 rfl rfl)
theorem dX4_on_17 : decode cX4_on 17 = .ok (.aload_n 0, 1) := dk_42 (dk_at dksX4_on_0 17 rfl rfl)
theorem dX4_on_18 : decode cX4_on 18 = .ok (.iload 4, 2) := dk_21 4 (dk_at dksX4_on_0 18 rfl rfl)
theorem dX4_on_20 : decode cX4_on 20 = .ok (.iload_n 1, 1) := dk_27 (dk_at dksX4_on_0 20 rfl rfl)
theorem dX4_on_21 : decode cX4_on 21 = .ok (.invokevirtual 94, 3) := dk_182 0 94 (dk_at dksX4_on_0 21 rfl rfl)
theorem dX4_on_24 : decode cX4_on 24 = .ok (.ifCond .ne 7, 3) := dk_154 0 7 (dk_at dksX4_on_1 0 rfl rfl)
theorem dX4_on_27 : decode cX4_on 27 = .ok (.iconst 0, 1) := dk_3 (dk_at dksX4_on_1 3 rfl rfl)
theorem dX4_on_28 : decode cX4_on 28 = .ok (.goto 23, 3) := dk_167 0 23 (dk_at dksX4_on_1 4 rfl rfl)
theorem dX4_on_31 : decode cX4_on 31 = .ok (.iload_n 2, 1) := dk_28 (dk_at dksX4_on_1 7 rfl rfl)
theorem dX4_on_32 : decode cX4_on 32 = .ok (.ifCond .eq 18, 3) := dk_153 0 18 (dk_at dksX4_on_1 8 rfl rfl)
theorem dX4_on_35 : decode cX4_on 35 = .ok (.aload_n 0, 1) := dk_42 (dk_at dksX4_on_1 11 rfl rfl)
theorem dX4_on_36 : decode cX4_on 36 = .ok (.getfield 9, 3) := dk_180 0 9 (dk_at dksX4_on_1 12 rfl rfl)
theorem dX4_on_39 : decode cX4_on 39 = .ok (.iload 4, 2) := dk_21 4 (dk_at dksX4_on_1 15 rfl rfl)
theorem dX4_on_41 : decode cX4_on 41 = .ok (.invokestatic 91, 3) := dk_184 0 91 (dk_at dksX4_on_1 17 rfl rfl)
theorem dX4_on_44 : decode cX4_on 44 = .ok (.iconst 0, 1) := dk_3 (dk_at dksX4_on_1 20 rfl rfl)
theorem dX4_on_45 : decode cX4_on 45 = .ok (.iadd, 1) := dk_96 (dk_at dksX4_on_1 21 rfl rfl)
theorem dX4_on_46 : decode cX4_on 46 = .ok (.iaload, 1) := dk_46 (dk_at dksX4_on_1 22 rfl rfl)
theorem dX4_on_47 : decode cX4_on 47 = .ok (.goto 4, 3) := dk_167 0 4 (dk_at dksX4_on_2 0 rfl rfl)
theorem dX4_on_50 : decode cX4_on 50 = .ok (.iconst 1, 1) := dk_4 (dk_at dksX4_on_2 3 rfl rfl)
theorem dX4_on_51 : decode cX4_on 51 = .ok (.iadd, 1) := dk_96 (dk_at dksX4_on_2 4 rfl rfl)
theorem dX4_on_52 : decode cX4_on 52 = .ok (.istore_n 3, 1) := dk_62 (dk_at dksX4_on_2 5 rfl rfl)
theorem dX4_on_53 : decode cX4_on 53 = .ok (.iinc 4 1, 3) := dk_132 4 1 (dk_at dksX4_on_2 6 rfl rfl)
theorem dX4_on_56 : decode cX4_on 56 = .ok (.goto (-51), 3) := dk_167 255 205 (dk_at dksX4_on_2 9 rfl rfl)
theorem dX4_on_59 : decode cX4_on 59 = .ok (.iload_n 3, 1) := dk_29 (dk_at dksX4_on_2 12 rfl rfl)
theorem dX4_on_60 : decode cX4_on 60 = .ok (.ireturn, 1) := dk_172 (dk_at dksX4_on_2 13 rfl rfl)
abbrev cX4_guardAt : ByteArray := prog_17_method_24_code
def yX4_guardAt : MethodName := ⟨RX4, "guardAt", "(I)I"⟩
def dkwX4_guardAt_1 : List UInt8 := [160, 0, 5, 28, 172, 132, 2, 1, 167, 255, 227, 2, 172]
abbrev dktX4_guardAt_1 : List UInt8 := dkwX4_guardAt_1 ++ []
def dkwX4_guardAt_0 : List UInt8 := [3, 61, 28, 42, 180, 0, 9, 6, 46, 162, 0, 25, 42, 180, 0, 9, 17, 0, 182, 28, 96, 46, 27]
abbrev dktX4_guardAt_0 : List UInt8 := dkwX4_guardAt_0 ++ dktX4_guardAt_1
theorem dksX4_guardAt_0 : cX4_guardAt.data.toList.drop 0 = dktX4_guardAt_0 := by decide +kernel
theorem dksX4_guardAt_1 : cX4_guardAt.data.toList.drop 23 = dktX4_guardAt_1 := dk_seg dksX4_guardAt_0 23 rfl rfl
theorem dX4_guardAt_0 : decode cX4_guardAt 0 = .ok (.iconst 0, 1) := dk_3 (dk_at dksX4_guardAt_0 0 rfl rfl)
theorem dX4_guardAt_1 : decode cX4_guardAt 1 = .ok (.istore_n 2, 1) := dk_61 (dk_at dksX4_guardAt_0 1 rfl rfl)
theorem dX4_guardAt_2 : decode cX4_guardAt 2 = .ok (.iload_n 2, 1) := dk_28 (dk_at dksX4_guardAt_0 2 rfl rfl)
theorem dX4_guardAt_3 : decode cX4_guardAt 3 = .ok (.aload_n 0, 1) := dk_42 (dk_at dksX4_guardAt_0 3 rfl rfl)
theorem dX4_guardAt_4 : decode cX4_guardAt 4 = .ok (.getfield 9, 3) := dk_180 0 9 (dk_at dksX4_guardAt_0 4 rfl rfl)
theorem dX4_guardAt_7 : decode cX4_guardAt 7 = .ok (.iconst 3, 1) := dk_6 (dk_at dksX4_guardAt_0 7 rfl rfl)
theorem dX4_guardAt_8 : decode cX4_guardAt 8 = .ok (.iaload, 1) := dk_46 (dk_at dksX4_guardAt_0 8 rfl rfl)
theorem dX4_guardAt_9 : decode cX4_guardAt 9 = .ok (.if_icmp .ge 25, 3) := dk_162 0 25 (dk_at dksX4_guardAt_0 9 rfl rfl)
theorem dX4_guardAt_12 : decode cX4_guardAt 12 = .ok (.aload_n 0, 1) := dk_42 (dk_at dksX4_guardAt_0 12 rfl rfl)
theorem dX4_guardAt_13 : decode cX4_guardAt 13 = .ok (.getfield 9, 3) := dk_180 0 9 (dk_at dksX4_guardAt_0 13 rfl rfl)
theorem dX4_guardAt_16 : decode cX4_guardAt 16 = .ok (.sipush 182, 3) := dk_17 0 182 (dk_at dksX4_guardAt_0 16 rfl rfl)
theorem dX4_guardAt_19 : decode cX4_guardAt 19 = .ok (.iload_n 2, 1) := dk_28 (dk_at dksX4_guardAt_0 19 rfl rfl)
theorem dX4_guardAt_20 : decode cX4_guardAt 20 = .ok (.iadd, 1) := dk_96 (dk_at dksX4_guardAt_0 20 rfl rfl)
theorem dX4_guardAt_21 : decode cX4_guardAt 21 = .ok (.iaload, 1) := dk_46 (dk_at dksX4_guardAt_0 21 rfl rfl)
theorem dX4_guardAt_22 : decode cX4_guardAt 22 = .ok (.iload_n 1, 1) := dk_27 (dk_at dksX4_guardAt_0 22 rfl rfl)
theorem dX4_guardAt_23 : decode cX4_guardAt 23 = .ok (.if_icmp .ne 5, 3) := dk_160 0 5 (dk_at dksX4_guardAt_1 0 rfl rfl)
theorem dX4_guardAt_26 : decode cX4_guardAt 26 = .ok (.iload_n 2, 1) := dk_28 (dk_at dksX4_guardAt_1 3 rfl rfl)
theorem dX4_guardAt_27 : decode cX4_guardAt 27 = .ok (.ireturn, 1) := dk_172 (dk_at dksX4_guardAt_1 4 rfl rfl)
theorem dX4_guardAt_28 : decode cX4_guardAt 28 = .ok (.iinc 2 1, 3) := dk_132 2 1 (dk_at dksX4_guardAt_1 5 rfl rfl)
theorem dX4_guardAt_31 : decode cX4_guardAt 31 = .ok (.goto (-29), 3) := dk_167 255 227 (dk_at dksX4_guardAt_1 8 rfl rfl)
theorem dX4_guardAt_34 : decode cX4_guardAt 34 = .ok (.iconst (-1), 1) := dk_2 (dk_at dksX4_guardAt_1 11 rfl rfl)
theorem dX4_guardAt_35 : decode cX4_guardAt 35 = .ok (.ireturn, 1) := dk_172 (dk_at dksX4_guardAt_1 12 rfl rfl)
abbrev cX4_wear : ByteArray := prog_17_method_30_code
def yX4_wear : MethodName := ⟨RX4, "wear", "(II)I"⟩
def dkwX4_wear_1 : List UInt8 := [153, 0, 17, 42, 180, 0, 9, 27, 184, 0, 82, 28, 96, 46, 167, 0, 8, 42, 4, 182, 0, 60, 172]
abbrev dktX4_wear_1 : List UInt8 := dkwX4_wear_1 ++ []
def dkwX4_wear_0 : List UInt8 := [42, 3, 181, 0, 54, 42, 27, 182, 0, 98, 153, 0, 29, 28, 133, 9, 20, 0, 102, 184, 0, 71]
abbrev dktX4_wear_0 : List UInt8 := dkwX4_wear_0 ++ dktX4_wear_1
theorem dksX4_wear_0 : cX4_wear.data.toList.drop 0 = dktX4_wear_0 := by decide +kernel
theorem dksX4_wear_1 : cX4_wear.data.toList.drop 22 = dktX4_wear_1 := dk_seg dksX4_wear_0 22 rfl rfl
theorem dX4_wear_0 : decode cX4_wear 0 = .ok (.aload_n 0, 1) := dk_42 (dk_at dksX4_wear_0 0 rfl rfl)
theorem dX4_wear_1 : decode cX4_wear 1 = .ok (.iconst 0, 1) := dk_3 (dk_at dksX4_wear_0 1 rfl rfl)
theorem dX4_wear_2 : decode cX4_wear 2 = .ok (.putfield 54, 3) := dk_181 0 54 (dk_at dksX4_wear_0 2 rfl rfl)
theorem dX4_wear_5 : decode cX4_wear 5 = .ok (.aload_n 0, 1) := dk_42 (dk_at dksX4_wear_0 5 rfl rfl)
theorem dX4_wear_6 : decode cX4_wear 6 = .ok (.iload_n 1, 1) := dk_27 (dk_at dksX4_wear_0 6 rfl rfl)
theorem dX4_wear_7 : decode cX4_wear 7 = .ok (.invokevirtual 98, 3) := dk_182 0 98 (dk_at dksX4_wear_0 7 rfl rfl)
theorem dX4_wear_10 : decode cX4_wear 10 = .ok (.ifCond .eq 29, 3) := dk_153 0 29 (dk_at dksX4_wear_0 10 rfl rfl)
theorem dX4_wear_13 : decode cX4_wear 13 = .ok (.iload_n 2, 1) := dk_28 (dk_at dksX4_wear_0 13 rfl rfl)
theorem dX4_wear_14 : decode cX4_wear 14 = .ok (.i2l, 1) := dk_133 (dk_at dksX4_wear_0 14 rfl rfl)
theorem dX4_wear_15 : decode cX4_wear 15 = .ok (.lconst 0, 1) := dk_9 (dk_at dksX4_wear_0 15 rfl rfl)
theorem dX4_wear_16 : decode cX4_wear 16 = .ok (.ldc2_w 102, 3) := dk_20 0 102 (dk_at dksX4_wear_0 16 rfl rfl)
theorem dX4_wear_19 : decode cX4_wear 19 = .ok (.invokestatic 71, 3) := dk_184 0 71 (dk_at dksX4_wear_0 19 rfl rfl)
theorem dX4_wear_22 : decode cX4_wear 22 = .ok (.ifCond .eq 17, 3) := dk_153 0 17 (dk_at dksX4_wear_1 0 rfl rfl)
theorem dX4_wear_25 : decode cX4_wear 25 = .ok (.aload_n 0, 1) := dk_42 (dk_at dksX4_wear_1 3 rfl rfl)
theorem dX4_wear_26 : decode cX4_wear 26 = .ok (.getfield 9, 3) := dk_180 0 9 (dk_at dksX4_wear_1 4 rfl rfl)
theorem dX4_wear_29 : decode cX4_wear 29 = .ok (.iload_n 1, 1) := dk_27 (dk_at dksX4_wear_1 7 rfl rfl)
theorem dX4_wear_30 : decode cX4_wear 30 = .ok (.invokestatic 82, 3) := dk_184 0 82 (dk_at dksX4_wear_1 8 rfl rfl)
theorem dX4_wear_33 : decode cX4_wear 33 = .ok (.iload_n 2, 1) := dk_28 (dk_at dksX4_wear_1 11 rfl rfl)
theorem dX4_wear_34 : decode cX4_wear 34 = .ok (.iadd, 1) := dk_96 (dk_at dksX4_wear_1 12 rfl rfl)
theorem dX4_wear_35 : decode cX4_wear 35 = .ok (.iaload, 1) := dk_46 (dk_at dksX4_wear_1 13 rfl rfl)
theorem dX4_wear_36 : decode cX4_wear 36 = .ok (.goto 8, 3) := dk_167 0 8 (dk_at dksX4_wear_1 14 rfl rfl)
theorem dX4_wear_39 : decode cX4_wear 39 = .ok (.aload_n 0, 1) := dk_42 (dk_at dksX4_wear_1 17 rfl rfl)
theorem dX4_wear_40 : decode cX4_wear 40 = .ok (.iconst 1, 1) := dk_4 (dk_at dksX4_wear_1 18 rfl rfl)
theorem dX4_wear_41 : decode cX4_wear 41 = .ok (.invokevirtual 60, 3) := dk_182 0 60 (dk_at dksX4_wear_1 19 rfl rfl)
theorem dX4_wear_44 : decode cX4_wear 44 = .ok (.ireturn, 1) := dk_172 (dk_at dksX4_wear_1 22 rfl rfl)
abbrev cX4_bearsAgain : ByteArray := prog_17_method_31_code
def yX4_bearsAgain : MethodName := ⟨RX4, "bearsAgain", "(I)I"⟩
def dkwX4_bearsAgain_1 : List UInt8 := [182, 0, 60, 172]
abbrev dktX4_bearsAgain_1 : List UInt8 := dkwX4_bearsAgain_1 ++ []
def dkwX4_bearsAgain_0 : List UInt8 := [42, 3, 181, 0, 54, 42, 27, 182, 0, 98, 153, 0, 11, 42, 27, 182, 0, 107, 167, 0, 8, 42, 4]
abbrev dktX4_bearsAgain_0 : List UInt8 := dkwX4_bearsAgain_0 ++ dktX4_bearsAgain_1
theorem dksX4_bearsAgain_0 : cX4_bearsAgain.data.toList.drop 0 = dktX4_bearsAgain_0 := by decide +kernel
theorem dksX4_bearsAgain_1 : cX4_bearsAgain.data.toList.drop 23 = dktX4_bearsAgain_1 := dk_seg dksX4_bearsAgain_0 23 rfl rfl
theorem dX4_bearsAgain_0 : decode cX4_bearsAgain 0 = .ok (.aload_n 0, 1) := dk_42 (dk_at dksX4_bearsAgain_0 0 rfl rfl)
theorem dX4_bearsAgain_1 : decode cX4_bearsAgain 1 = .ok (.iconst 0, 1) := dk_3 (dk_at dksX4_bearsAgain_0 1 rfl rfl)
theorem dX4_bearsAgain_2 : decode cX4_bearsAgain 2 = .ok (.putfield 54, 3) := dk_181 0 54 (dk_at dksX4_bearsAgain_0 2 rfl rfl)
theorem dX4_bearsAgain_5 : decode cX4_bearsAgain 5 = .ok (.aload_n 0, 1) := dk_42 (dk_at dksX4_bearsAgain_0 5 rfl rfl)
theorem dX4_bearsAgain_6 : decode cX4_bearsAgain 6 = .ok (.iload_n 1, 1) := dk_27 (dk_at dksX4_bearsAgain_0 6 rfl rfl)
theorem dX4_bearsAgain_7 : decode cX4_bearsAgain 7 = .ok (.invokevirtual 98, 3) := dk_182 0 98 (dk_at dksX4_bearsAgain_0 7 rfl rfl)
theorem dX4_bearsAgain_10 : decode cX4_bearsAgain 10 = .ok (.ifCond .eq 11, 3) := dk_153 0 11 (dk_at dksX4_bearsAgain_0 10 rfl rfl)
theorem dX4_bearsAgain_13 : decode cX4_bearsAgain 13 = .ok (.aload_n 0, 1) := dk_42 (dk_at dksX4_bearsAgain_0 13 rfl rfl)
theorem dX4_bearsAgain_14 : decode cX4_bearsAgain 14 = .ok (.iload_n 1, 1) := dk_27 (dk_at dksX4_bearsAgain_0 14 rfl rfl)
theorem dX4_bearsAgain_15 : decode cX4_bearsAgain 15 = .ok (.invokevirtual 107, 3) := dk_182 0 107 (dk_at dksX4_bearsAgain_0 15 rfl rfl)
theorem dX4_bearsAgain_18 : decode cX4_bearsAgain 18 = .ok (.goto 8, 3) := dk_167 0 8 (dk_at dksX4_bearsAgain_0 18 rfl rfl)
theorem dX4_bearsAgain_21 : decode cX4_bearsAgain 21 = .ok (.aload_n 0, 1) := dk_42 (dk_at dksX4_bearsAgain_0 21 rfl rfl)
theorem dX4_bearsAgain_22 : decode cX4_bearsAgain 22 = .ok (.iconst 1, 1) := dk_4 (dk_at dksX4_bearsAgain_0 22 rfl rfl)
theorem dX4_bearsAgain_23 : decode cX4_bearsAgain 23 = .ok (.invokevirtual 60, 3) := dk_182 0 60 (dk_at dksX4_bearsAgain_1 0 rfl rfl)
theorem dX4_bearsAgain_26 : decode cX4_bearsAgain 26 = .ok (.ireturn, 1) := dk_172 (dk_at dksX4_bearsAgain_1 3 rfl rfl)
abbrev cX4_bestMat : ByteArray := prog_17_method_32_code
def yX4_bestMat : MethodName := ⟨RX4, "bestMat", "()I"⟩
def dkwX4_bestMat_3 : List UInt8 := [132, 2, 1, 167, 255, 192, 27, 2, 160, 0, 11, 42, 4, 182, 0, 60, 167, 0, 4, 27, 172]
abbrev dktX4_bestMat_3 : List UInt8 := dkwX4_bestMat_3 ++ []
def dkwX4_bestMat_2 : List UInt8 := [182, 0, 117, 42, 28, 182, 0, 117, 100, 167, 0, 4, 29, 62, 29, 158, 0, 7, 28, 167, 0, 4, 27, 60]
abbrev dktX4_bestMat_2 : List UInt8 := dkwX4_bestMat_2 ++ dktX4_bestMat_3
def dkwX4_bestMat_1 : List UInt8 := [4, 167, 0, 14, 42, 28, 182, 0, 107, 42, 27, 182, 0, 107, 100, 62, 29, 154, 0, 17, 42, 27]
abbrev dktX4_bestMat_1 : List UInt8 := dkwX4_bestMat_1 ++ dktX4_bestMat_2
def dkwX4_bestMat_0 : List UInt8 := [42, 3, 181, 0, 54, 2, 60, 3, 61, 28, 42, 180, 0, 9, 4, 46, 162, 0, 60, 27, 2, 160, 0, 7]
abbrev dktX4_bestMat_0 : List UInt8 := dkwX4_bestMat_0 ++ dktX4_bestMat_1
theorem dksX4_bestMat_0 : cX4_bestMat.data.toList.drop 0 = dktX4_bestMat_0 := by decide +kernel
theorem dksX4_bestMat_1 : cX4_bestMat.data.toList.drop 24 = dktX4_bestMat_1 := dk_seg dksX4_bestMat_0 24 rfl rfl
theorem dksX4_bestMat_2 : cX4_bestMat.data.toList.drop 46 = dktX4_bestMat_2 := dk_seg dksX4_bestMat_1 22 rfl rfl
theorem dksX4_bestMat_3 : cX4_bestMat.data.toList.drop 70 = dktX4_bestMat_3 := dk_seg dksX4_bestMat_2 24 rfl rfl
theorem dX4_bestMat_0 : decode cX4_bestMat 0 = .ok (.aload_n 0, 1) := dk_42 (dk_at dksX4_bestMat_0 0 rfl rfl)
theorem dX4_bestMat_1 : decode cX4_bestMat 1 = .ok (.iconst 0, 1) := dk_3 (dk_at dksX4_bestMat_0 1 rfl rfl)
theorem dX4_bestMat_2 : decode cX4_bestMat 2 = .ok (.putfield 54, 3) := dk_181 0 54 (dk_at dksX4_bestMat_0 2 rfl rfl)
theorem dX4_bestMat_5 : decode cX4_bestMat 5 = .ok (.iconst (-1), 1) := dk_2 (dk_at dksX4_bestMat_0 5 rfl rfl)
theorem dX4_bestMat_6 : decode cX4_bestMat 6 = .ok (.istore_n 1, 1) := dk_60 (dk_at dksX4_bestMat_0 6 rfl rfl)
theorem dX4_bestMat_7 : decode cX4_bestMat 7 = .ok (.iconst 0, 1) := dk_3 (dk_at dksX4_bestMat_0 7 rfl rfl)
theorem dX4_bestMat_8 : decode cX4_bestMat 8 = .ok (.istore_n 2, 1) := dk_61 (dk_at dksX4_bestMat_0 8 rfl rfl)
theorem dX4_bestMat_9 : decode cX4_bestMat 9 = .ok (.iload_n 2, 1) := dk_28 (dk_at dksX4_bestMat_0 9 rfl rfl)
theorem dX4_bestMat_10 : decode cX4_bestMat 10 = .ok (.aload_n 0, 1) := dk_42 (dk_at dksX4_bestMat_0 10 rfl rfl)
theorem dX4_bestMat_11 : decode cX4_bestMat 11 = .ok (.getfield 9, 3) := dk_180 0 9 (dk_at dksX4_bestMat_0 11 rfl rfl)
theorem dX4_bestMat_14 : decode cX4_bestMat 14 = .ok (.iconst 1, 1) := dk_4 (dk_at dksX4_bestMat_0 14 rfl rfl)
theorem dX4_bestMat_15 : decode cX4_bestMat 15 = .ok (.iaload, 1) := dk_46 (dk_at dksX4_bestMat_0 15 rfl rfl)
theorem dX4_bestMat_16 : decode cX4_bestMat 16 = .ok (.if_icmp .ge 60, 3) := dk_162 0 60 (dk_at dksX4_bestMat_0 16 rfl rfl)
theorem dX4_bestMat_19 : decode cX4_bestMat 19 = .ok (.iload_n 1, 1) := dk_27 (dk_at dksX4_bestMat_0 19 rfl rfl)
theorem dX4_bestMat_20 : decode cX4_bestMat 20 = .ok (.iconst (-1), 1) := dk_2 (dk_at dksX4_bestMat_0 20 rfl rfl)
theorem dX4_bestMat_21 : decode cX4_bestMat 21 = .ok (.if_icmp .ne 7, 3) := dk_160 0 7 (dk_at dksX4_bestMat_0 21 rfl rfl)
theorem dX4_bestMat_24 : decode cX4_bestMat 24 = .ok (.iconst 1, 1) := dk_4 (dk_at dksX4_bestMat_1 0 rfl rfl)
theorem dX4_bestMat_25 : decode cX4_bestMat 25 = .ok (.goto 14, 3) := dk_167 0 14 (dk_at dksX4_bestMat_1 1 rfl rfl)
theorem dX4_bestMat_28 : decode cX4_bestMat 28 = .ok (.aload_n 0, 1) := dk_42 (dk_at dksX4_bestMat_1 4 rfl rfl)
theorem dX4_bestMat_29 : decode cX4_bestMat 29 = .ok (.iload_n 2, 1) := dk_28 (dk_at dksX4_bestMat_1 5 rfl rfl)
theorem dX4_bestMat_30 : decode cX4_bestMat 30 = .ok (.invokevirtual 107, 3) := dk_182 0 107 (dk_at dksX4_bestMat_1 6 rfl rfl)
theorem dX4_bestMat_33 : decode cX4_bestMat 33 = .ok (.aload_n 0, 1) := dk_42 (dk_at dksX4_bestMat_1 9 rfl rfl)
theorem dX4_bestMat_34 : decode cX4_bestMat 34 = .ok (.iload_n 1, 1) := dk_27 (dk_at dksX4_bestMat_1 10 rfl rfl)
theorem dX4_bestMat_35 : decode cX4_bestMat 35 = .ok (.invokevirtual 107, 3) := dk_182 0 107 (dk_at dksX4_bestMat_1 11 rfl rfl)
theorem dX4_bestMat_38 : decode cX4_bestMat 38 = .ok (.isub, 1) := dk_100 (dk_at dksX4_bestMat_1 14 rfl rfl)
theorem dX4_bestMat_39 : decode cX4_bestMat 39 = .ok (.istore_n 3, 1) := dk_62 (dk_at dksX4_bestMat_1 15 rfl rfl)
theorem dX4_bestMat_40 : decode cX4_bestMat 40 = .ok (.iload_n 3, 1) := dk_29 (dk_at dksX4_bestMat_1 16 rfl rfl)
theorem dX4_bestMat_41 : decode cX4_bestMat 41 = .ok (.ifCond .ne 17, 3) := dk_154 0 17 (dk_at dksX4_bestMat_1 17 rfl rfl)
theorem dX4_bestMat_44 : decode cX4_bestMat 44 = .ok (.aload_n 0, 1) := dk_42 (dk_at dksX4_bestMat_1 20 rfl rfl)
theorem dX4_bestMat_45 : decode cX4_bestMat 45 = .ok (.iload_n 1, 1) := dk_27 (dk_at dksX4_bestMat_1 21 rfl rfl)
theorem dX4_bestMat_46 : decode cX4_bestMat 46 = .ok (.invokevirtual 117, 3) := dk_182 0 117 (dk_at dksX4_bestMat_2 0 rfl rfl)
theorem dX4_bestMat_49 : decode cX4_bestMat 49 = .ok (.aload_n 0, 1) := dk_42 (dk_at dksX4_bestMat_2 3 rfl rfl)
theorem dX4_bestMat_50 : decode cX4_bestMat 50 = .ok (.iload_n 2, 1) := dk_28 (dk_at dksX4_bestMat_2 4 rfl rfl)
theorem dX4_bestMat_51 : decode cX4_bestMat 51 = .ok (.invokevirtual 117, 3) := dk_182 0 117 (dk_at dksX4_bestMat_2 5 rfl rfl)
theorem dX4_bestMat_54 : decode cX4_bestMat 54 = .ok (.isub, 1) := dk_100 (dk_at dksX4_bestMat_2 8 rfl rfl)
theorem dX4_bestMat_55 : decode cX4_bestMat 55 = .ok (.goto 4, 3) := dk_167 0 4 (dk_at dksX4_bestMat_2 9 rfl rfl)
theorem dX4_bestMat_58 : decode cX4_bestMat 58 = .ok (.iload_n 3, 1) := dk_29 (dk_at dksX4_bestMat_2 12 rfl rfl)
theorem dX4_bestMat_59 : decode cX4_bestMat 59 = .ok (.istore_n 3, 1) := dk_62 (dk_at dksX4_bestMat_2 13 rfl rfl)
theorem dX4_bestMat_60 : decode cX4_bestMat 60 = .ok (.iload_n 3, 1) := dk_29 (dk_at dksX4_bestMat_2 14 rfl rfl)
theorem dX4_bestMat_61 : decode cX4_bestMat 61 = .ok (.ifCond .le 7, 3) := dk_158 0 7 (dk_at dksX4_bestMat_2 15 rfl rfl)
theorem dX4_bestMat_64 : decode cX4_bestMat 64 = .ok (.iload_n 2, 1) := dk_28 (dk_at dksX4_bestMat_2 18 rfl rfl)
theorem dX4_bestMat_65 : decode cX4_bestMat 65 = .ok (.goto 4, 3) := dk_167 0 4 (dk_at dksX4_bestMat_2 19 rfl rfl)
theorem dX4_bestMat_68 : decode cX4_bestMat 68 = .ok (.iload_n 1, 1) := dk_27 (dk_at dksX4_bestMat_2 22 rfl rfl)
theorem dX4_bestMat_69 : decode cX4_bestMat 69 = .ok (.istore_n 1, 1) := dk_60 (dk_at dksX4_bestMat_2 23 rfl rfl)
theorem dX4_bestMat_70 : decode cX4_bestMat 70 = .ok (.iinc 2 1, 3) := dk_132 2 1 (dk_at dksX4_bestMat_3 0 rfl rfl)
theorem dX4_bestMat_73 : decode cX4_bestMat 73 = .ok (.goto (-64), 3) := dk_167 255 192 (dk_at dksX4_bestMat_3 3 rfl rfl)
theorem dX4_bestMat_76 : decode cX4_bestMat 76 = .ok (.iload_n 1, 1) := dk_27 (dk_at dksX4_bestMat_3 6 rfl rfl)
theorem dX4_bestMat_77 : decode cX4_bestMat 77 = .ok (.iconst (-1), 1) := dk_2 (dk_at dksX4_bestMat_3 7 rfl rfl)
theorem dX4_bestMat_78 : decode cX4_bestMat 78 = .ok (.if_icmp .ne 11, 3) := dk_160 0 11 (dk_at dksX4_bestMat_3 8 rfl rfl)
theorem dX4_bestMat_81 : decode cX4_bestMat 81 = .ok (.aload_n 0, 1) := dk_42 (dk_at dksX4_bestMat_3 11 rfl rfl)
theorem dX4_bestMat_82 : decode cX4_bestMat 82 = .ok (.iconst 1, 1) := dk_4 (dk_at dksX4_bestMat_3 12 rfl rfl)
theorem dX4_bestMat_83 : decode cX4_bestMat 83 = .ok (.invokevirtual 60, 3) := dk_182 0 60 (dk_at dksX4_bestMat_3 13 rfl rfl)
theorem dX4_bestMat_86 : decode cX4_bestMat 86 = .ok (.goto 4, 3) := dk_167 0 4 (dk_at dksX4_bestMat_3 16 rfl rfl)
theorem dX4_bestMat_89 : decode cX4_bestMat 89 = .ok (.iload_n 1, 1) := dk_27 (dk_at dksX4_bestMat_3 19 rfl rfl)
theorem dX4_bestMat_90 : decode cX4_bestMat 90 = .ok (.ireturn, 1) := dk_172 (dk_at dksX4_bestMat_3 20 rfl rfl)
abbrev cX4_jumper : ByteArray := prog_17_method_34_code
def yX4_jumper : MethodName := ⟨RX4, "jumper", "(II)I"⟩
def dkwX4_jumper_2 : List UInt8 := [5, 4, 16, 12, 182, 0, 64, 172, 42, 42, 27, 28, 2, 182, 0, 131, 182, 0, 85, 172]
abbrev dktX4_jumper_2 : List UInt8 := dkwX4_jumper_2 ++ []
def dkwX4_jumper_1 : List UInt8 := [184, 0, 71, 154, 0, 9, 42, 4, 182, 0, 60, 172, 42, 180, 0, 9, 5, 46, 16, 12, 160, 0, 12, 42]
abbrev dktX4_jumper_1 : List UInt8 := dkwX4_jumper_1 ++ dktX4_jumper_2
def dkwX4_jumper_0 : List UInt8 := [42, 182, 0, 79, 27, 133, 20, 0, 127, 20, 0, 129, 184, 0, 71, 153, 0, 15, 28, 133, 9, 20, 0, 75]
abbrev dktX4_jumper_0 : List UInt8 := dkwX4_jumper_0 ++ dktX4_jumper_1
theorem dksX4_jumper_0 : cX4_jumper.data.toList.drop 0 = dktX4_jumper_0 := by decide +kernel
theorem dksX4_jumper_1 : cX4_jumper.data.toList.drop 24 = dktX4_jumper_1 := dk_seg dksX4_jumper_0 24 rfl rfl
theorem dksX4_jumper_2 : cX4_jumper.data.toList.drop 48 = dktX4_jumper_2 := dk_seg dksX4_jumper_1 24 rfl rfl
theorem dX4_jumper_0 : decode cX4_jumper 0 = .ok (.aload_n 0, 1) := dk_42 (dk_at dksX4_jumper_0 0 rfl rfl)
theorem dX4_jumper_1 : decode cX4_jumper 1 = .ok (.invokevirtual 79, 3) := dk_182 0 79 (dk_at dksX4_jumper_0 1 rfl rfl)
theorem dX4_jumper_4 : decode cX4_jumper 4 = .ok (.iload_n 1, 1) := dk_27 (dk_at dksX4_jumper_0 4 rfl rfl)
theorem dX4_jumper_5 : decode cX4_jumper 5 = .ok (.i2l, 1) := dk_133 (dk_at dksX4_jumper_0 5 rfl rfl)
theorem dX4_jumper_6 : decode cX4_jumper 6 = .ok (.ldc2_w 127, 3) := dk_20 0 127 (dk_at dksX4_jumper_0 6 rfl rfl)
theorem dX4_jumper_9 : decode cX4_jumper 9 = .ok (.ldc2_w 129, 3) := dk_20 0 129 (dk_at dksX4_jumper_0 9 rfl rfl)
theorem dX4_jumper_12 : decode cX4_jumper 12 = .ok (.invokestatic 71, 3) := dk_184 0 71 (dk_at dksX4_jumper_0 12 rfl rfl)
theorem dX4_jumper_15 : decode cX4_jumper 15 = .ok (.ifCond .eq 15, 3) := dk_153 0 15 (dk_at dksX4_jumper_0 15 rfl rfl)
theorem dX4_jumper_18 : decode cX4_jumper 18 = .ok (.iload_n 2, 1) := dk_28 (dk_at dksX4_jumper_0 18 rfl rfl)
theorem dX4_jumper_19 : decode cX4_jumper 19 = .ok (.i2l, 1) := dk_133 (dk_at dksX4_jumper_0 19 rfl rfl)
theorem dX4_jumper_20 : decode cX4_jumper 20 = .ok (.lconst 0, 1) := dk_9 (dk_at dksX4_jumper_0 20 rfl rfl)
theorem dX4_jumper_21 : decode cX4_jumper 21 = .ok (.ldc2_w 75, 3) := dk_20 0 75 (dk_at dksX4_jumper_0 21 rfl rfl)
theorem dX4_jumper_24 : decode cX4_jumper 24 = .ok (.invokestatic 71, 3) := dk_184 0 71 (dk_at dksX4_jumper_1 0 rfl rfl)
theorem dX4_jumper_27 : decode cX4_jumper 27 = .ok (.ifCond .ne 9, 3) := dk_154 0 9 (dk_at dksX4_jumper_1 3 rfl rfl)
theorem dX4_jumper_30 : decode cX4_jumper 30 = .ok (.aload_n 0, 1) := dk_42 (dk_at dksX4_jumper_1 6 rfl rfl)
theorem dX4_jumper_31 : decode cX4_jumper 31 = .ok (.iconst 1, 1) := dk_4 (dk_at dksX4_jumper_1 7 rfl rfl)
theorem dX4_jumper_32 : decode cX4_jumper 32 = .ok (.invokevirtual 60, 3) := dk_182 0 60 (dk_at dksX4_jumper_1 8 rfl rfl)
theorem dX4_jumper_35 : decode cX4_jumper 35 = .ok (.ireturn, 1) := dk_172 (dk_at dksX4_jumper_1 11 rfl rfl)
theorem dX4_jumper_36 : decode cX4_jumper 36 = .ok (.aload_n 0, 1) := dk_42 (dk_at dksX4_jumper_1 12 rfl rfl)
theorem dX4_jumper_37 : decode cX4_jumper 37 = .ok (.getfield 9, 3) := dk_180 0 9 (dk_at dksX4_jumper_1 13 rfl rfl)
theorem dX4_jumper_40 : decode cX4_jumper 40 = .ok (.iconst 2, 1) := dk_5 (dk_at dksX4_jumper_1 16 rfl rfl)
theorem dX4_jumper_41 : decode cX4_jumper 41 = .ok (.iaload, 1) := dk_46 (dk_at dksX4_jumper_1 17 rfl rfl)
theorem dX4_jumper_42 : decode cX4_jumper 42 = .ok (.bipush 12, 2) := dk_16 12 (dk_at dksX4_jumper_1 18 rfl rfl)
theorem dX4_jumper_44 : decode cX4_jumper 44 = .ok (.if_icmp .ne 12, 3) := dk_160 0 12 (dk_at dksX4_jumper_1 20 rfl rfl)
theorem dX4_jumper_47 : decode cX4_jumper 47 = .ok (.aload_n 0, 1) := dk_42 (dk_at dksX4_jumper_1 23 rfl rfl)
theorem dX4_jumper_48 : decode cX4_jumper 48 = .ok (.iconst 2, 1) := dk_5 (dk_at dksX4_jumper_2 0 rfl rfl)
theorem dX4_jumper_49 : decode cX4_jumper 49 = .ok (.iconst 1, 1) := dk_4 (dk_at dksX4_jumper_2 1 rfl rfl)
theorem dX4_jumper_50 : decode cX4_jumper 50 = .ok (.bipush 12, 2) := dk_16 12 (dk_at dksX4_jumper_2 2 rfl rfl)
theorem dX4_jumper_52 : decode cX4_jumper 52 = .ok (.invokevirtual 64, 3) := dk_182 0 64 (dk_at dksX4_jumper_2 4 rfl rfl)
theorem dX4_jumper_55 : decode cX4_jumper 55 = .ok (.ireturn, 1) := dk_172 (dk_at dksX4_jumper_2 7 rfl rfl)
theorem dX4_jumper_56 : decode cX4_jumper 56 = .ok (.aload_n 0, 1) := dk_42 (dk_at dksX4_jumper_2 8 rfl rfl)
theorem dX4_jumper_57 : decode cX4_jumper 57 = .ok (.aload_n 0, 1) := dk_42 (dk_at dksX4_jumper_2 9 rfl rfl)
theorem dX4_jumper_58 : decode cX4_jumper 58 = .ok (.iload_n 1, 1) := dk_27 (dk_at dksX4_jumper_2 10 rfl rfl)
theorem dX4_jumper_59 : decode cX4_jumper 59 = .ok (.iload_n 2, 1) := dk_28 (dk_at dksX4_jumper_2 11 rfl rfl)
theorem dX4_jumper_60 : decode cX4_jumper 60 = .ok (.iconst (-1), 1) := dk_2 (dk_at dksX4_jumper_2 12 rfl rfl)
theorem dX4_jumper_61 : decode cX4_jumper 61 = .ok (.invokevirtual 131, 3) := dk_182 0 131 (dk_at dksX4_jumper_2 13 rfl rfl)
theorem dX4_jumper_64 : decode cX4_jumper 64 = .ok (.invokevirtual 85, 3) := dk_182 0 85 (dk_at dksX4_jumper_2 16 rfl rfl)
theorem dX4_jumper_67 : decode cX4_jumper 67 = .ok (.ireturn, 1) := dk_172 (dk_at dksX4_jumper_2 19 rfl rfl)
abbrev cX4_jumperComes : ByteArray := prog_17_method_33_code
def yX4_jumperComes : MethodName := ⟨RX4, "jumperComes", "(III)I"⟩
def dkwX4_jumperComes_4 : List UInt8 := [180, 0, 9, 5, 46, 4, 100, 172]
abbrev dktX4_jumperComes_4 : List UInt8 := dkwX4_jumperComes_4 ++ []
def dkwX4_jumperComes_3 : List UInt8 := [3, 79, 42, 180, 0, 9, 21, 4, 16, 6, 96, 29, 79, 42, 180, 0, 9, 5, 92, 46, 4, 96, 79, 42]
abbrev dktX4_jumperComes_3 : List UInt8 := dkwX4_jumperComes_3 ++ dktX4_jumperComes_4
def dkwX4_jumperComes_2 : List UInt8 := [21, 4, 6, 96, 2, 79, 42, 180, 0, 9, 21, 4, 7, 96, 2, 79, 42, 180, 0, 9, 21, 4, 8, 96]
abbrev dktX4_jumperComes_2 : List UInt8 := dkwX4_jumperComes_2 ++ dktX4_jumperComes_3
def dkwX4_jumperComes_1 : List UInt8 := [180, 0, 9, 21, 4, 4, 96, 28, 79, 42, 180, 0, 9, 21, 4, 5, 96, 3, 79, 42, 180, 0, 9]
abbrev dktX4_jumperComes_1 : List UInt8 := dkwX4_jumperComes_1 ++ dktX4_jumperComes_2
def dkwX4_jumperComes_0 : List UInt8 := [42, 180, 0, 9, 5, 46, 184, 0, 91, 54, 4, 42, 180, 0, 9, 21, 4, 3, 96, 27, 79, 42]
abbrev dktX4_jumperComes_0 : List UInt8 := dkwX4_jumperComes_0 ++ dktX4_jumperComes_1
theorem dksX4_jumperComes_0 : cX4_jumperComes.data.toList.drop 0 = dktX4_jumperComes_0 := by decide +kernel
theorem dksX4_jumperComes_1 : cX4_jumperComes.data.toList.drop 22 = dktX4_jumperComes_1 := dk_seg dksX4_jumperComes_0 22 rfl rfl
theorem dksX4_jumperComes_2 : cX4_jumperComes.data.toList.drop 45 = dktX4_jumperComes_2 := dk_seg dksX4_jumperComes_1 23 rfl rfl
theorem dksX4_jumperComes_3 : cX4_jumperComes.data.toList.drop 69 = dktX4_jumperComes_3 := dk_seg dksX4_jumperComes_2 24 rfl rfl
theorem dksX4_jumperComes_4 : cX4_jumperComes.data.toList.drop 93 = dktX4_jumperComes_4 := dk_seg dksX4_jumperComes_3 24 rfl rfl
theorem dX4_jumperComes_0 : decode cX4_jumperComes 0 = .ok (.aload_n 0, 1) := dk_42 (dk_at dksX4_jumperComes_0 0 rfl rfl)
theorem dX4_jumperComes_1 : decode cX4_jumperComes 1 = .ok (.getfield 9, 3) := dk_180 0 9 (dk_at dksX4_jumperComes_0 1 rfl rfl)
theorem dX4_jumperComes_4 : decode cX4_jumperComes 4 = .ok (.iconst 2, 1) := dk_5 (dk_at dksX4_jumperComes_0 4 rfl rfl)
theorem dX4_jumperComes_5 : decode cX4_jumperComes 5 = .ok (.iaload, 1) := dk_46 (dk_at dksX4_jumperComes_0 5 rfl rfl)
theorem dX4_jumperComes_6 : decode cX4_jumperComes 6 = .ok (.invokestatic 91, 3) := dk_184 0 91 (dk_at dksX4_jumperComes_0 6 rfl rfl)
theorem dX4_jumperComes_9 : decode cX4_jumperComes 9 = .ok (.istore 4, 2) := dk_54 4 (dk_at dksX4_jumperComes_0 9 rfl rfl)
theorem dX4_jumperComes_11 : decode cX4_jumperComes 11 = .ok (.aload_n 0, 1) := dk_42 (dk_at dksX4_jumperComes_0 11 rfl rfl)
theorem dX4_jumperComes_12 : decode cX4_jumperComes 12 = .ok (.getfield 9, 3) := dk_180 0 9 (dk_at dksX4_jumperComes_0 12 rfl rfl)
theorem dX4_jumperComes_15 : decode cX4_jumperComes 15 = .ok (.iload 4, 2) := dk_21 4 (dk_at dksX4_jumperComes_0 15 rfl rfl)
theorem dX4_jumperComes_17 : decode cX4_jumperComes 17 = .ok (.iconst 0, 1) := dk_3 (dk_at dksX4_jumperComes_0 17 rfl rfl)
theorem dX4_jumperComes_18 : decode cX4_jumperComes 18 = .ok (.iadd, 1) := dk_96 (dk_at dksX4_jumperComes_0 18 rfl rfl)
theorem dX4_jumperComes_19 : decode cX4_jumperComes 19 = .ok (.iload_n 1, 1) := dk_27 (dk_at dksX4_jumperComes_0 19 rfl rfl)
theorem dX4_jumperComes_20 : decode cX4_jumperComes 20 = .ok (.iastore, 1) := dk_79 (dk_at dksX4_jumperComes_0 20 rfl rfl)
theorem dX4_jumperComes_21 : decode cX4_jumperComes 21 = .ok (.aload_n 0, 1) := dk_42 (dk_at dksX4_jumperComes_0 21 rfl rfl)
theorem dX4_jumperComes_22 : decode cX4_jumperComes 22 = .ok (.getfield 9, 3) := dk_180 0 9 (dk_at dksX4_jumperComes_1 0 rfl rfl)
theorem dX4_jumperComes_25 : decode cX4_jumperComes 25 = .ok (.iload 4, 2) := dk_21 4 (dk_at dksX4_jumperComes_1 3 rfl rfl)
theorem dX4_jumperComes_27 : decode cX4_jumperComes 27 = .ok (.iconst 1, 1) := dk_4 (dk_at dksX4_jumperComes_1 5 rfl rfl)
theorem dX4_jumperComes_28 : decode cX4_jumperComes 28 = .ok (.iadd, 1) := dk_96 (dk_at dksX4_jumperComes_1 6 rfl rfl)
theorem dX4_jumperComes_29 : decode cX4_jumperComes 29 = .ok (.iload_n 2, 1) := dk_28 (dk_at dksX4_jumperComes_1 7 rfl rfl)
theorem dX4_jumperComes_30 : decode cX4_jumperComes 30 = .ok (.iastore, 1) := dk_79 (dk_at dksX4_jumperComes_1 8 rfl rfl)
theorem dX4_jumperComes_31 : decode cX4_jumperComes 31 = .ok (.aload_n 0, 1) := dk_42 (dk_at dksX4_jumperComes_1 9 rfl rfl)
theorem dX4_jumperComes_32 : decode cX4_jumperComes 32 = .ok (.getfield 9, 3) := dk_180 0 9 (dk_at dksX4_jumperComes_1 10 rfl rfl)
theorem dX4_jumperComes_35 : decode cX4_jumperComes 35 = .ok (.iload 4, 2) := dk_21 4 (dk_at dksX4_jumperComes_1 13 rfl rfl)
theorem dX4_jumperComes_37 : decode cX4_jumperComes 37 = .ok (.iconst 2, 1) := dk_5 (dk_at dksX4_jumperComes_1 15 rfl rfl)
theorem dX4_jumperComes_38 : decode cX4_jumperComes 38 = .ok (.iadd, 1) := dk_96 (dk_at dksX4_jumperComes_1 16 rfl rfl)
theorem dX4_jumperComes_39 : decode cX4_jumperComes 39 = .ok (.iconst 0, 1) := dk_3 (dk_at dksX4_jumperComes_1 17 rfl rfl)
theorem dX4_jumperComes_40 : decode cX4_jumperComes 40 = .ok (.iastore, 1) := dk_79 (dk_at dksX4_jumperComes_1 18 rfl rfl)
theorem dX4_jumperComes_41 : decode cX4_jumperComes 41 = .ok (.aload_n 0, 1) := dk_42 (dk_at dksX4_jumperComes_1 19 rfl rfl)
theorem dX4_jumperComes_42 : decode cX4_jumperComes 42 = .ok (.getfield 9, 3) := dk_180 0 9 (dk_at dksX4_jumperComes_1 20 rfl rfl)
theorem dX4_jumperComes_45 : decode cX4_jumperComes 45 = .ok (.iload 4, 2) := dk_21 4 (dk_at dksX4_jumperComes_2 0 rfl rfl)
theorem dX4_jumperComes_47 : decode cX4_jumperComes 47 = .ok (.iconst 3, 1) := dk_6 (dk_at dksX4_jumperComes_2 2 rfl rfl)
theorem dX4_jumperComes_48 : decode cX4_jumperComes 48 = .ok (.iadd, 1) := dk_96 (dk_at dksX4_jumperComes_2 3 rfl rfl)
theorem dX4_jumperComes_49 : decode cX4_jumperComes 49 = .ok (.iconst (-1), 1) := dk_2 (dk_at dksX4_jumperComes_2 4 rfl rfl)
theorem dX4_jumperComes_50 : decode cX4_jumperComes 50 = .ok (.iastore, 1) := dk_79 (dk_at dksX4_jumperComes_2 5 rfl rfl)
theorem dX4_jumperComes_51 : decode cX4_jumperComes 51 = .ok (.aload_n 0, 1) := dk_42 (dk_at dksX4_jumperComes_2 6 rfl rfl)
theorem dX4_jumperComes_52 : decode cX4_jumperComes 52 = .ok (.getfield 9, 3) := dk_180 0 9 (dk_at dksX4_jumperComes_2 7 rfl rfl)
theorem dX4_jumperComes_55 : decode cX4_jumperComes 55 = .ok (.iload 4, 2) := dk_21 4 (dk_at dksX4_jumperComes_2 10 rfl rfl)
theorem dX4_jumperComes_57 : decode cX4_jumperComes 57 = .ok (.iconst 4, 1) := dk_7 (dk_at dksX4_jumperComes_2 12 rfl rfl)
theorem dX4_jumperComes_58 : decode cX4_jumperComes 58 = .ok (.iadd, 1) := dk_96 (dk_at dksX4_jumperComes_2 13 rfl rfl)
theorem dX4_jumperComes_59 : decode cX4_jumperComes 59 = .ok (.iconst (-1), 1) := dk_2 (dk_at dksX4_jumperComes_2 14 rfl rfl)
theorem dX4_jumperComes_60 : decode cX4_jumperComes 60 = .ok (.iastore, 1) := dk_79 (dk_at dksX4_jumperComes_2 15 rfl rfl)
theorem dX4_jumperComes_61 : decode cX4_jumperComes 61 = .ok (.aload_n 0, 1) := dk_42 (dk_at dksX4_jumperComes_2 16 rfl rfl)
theorem dX4_jumperComes_62 : decode cX4_jumperComes 62 = .ok (.getfield 9, 3) := dk_180 0 9 (dk_at dksX4_jumperComes_2 17 rfl rfl)
theorem dX4_jumperComes_65 : decode cX4_jumperComes 65 = .ok (.iload 4, 2) := dk_21 4 (dk_at dksX4_jumperComes_2 20 rfl rfl)
theorem dX4_jumperComes_67 : decode cX4_jumperComes 67 = .ok (.iconst 5, 1) := dk_8 (dk_at dksX4_jumperComes_2 22 rfl rfl)
theorem dX4_jumperComes_68 : decode cX4_jumperComes 68 = .ok (.iadd, 1) := dk_96 (dk_at dksX4_jumperComes_2 23 rfl rfl)
theorem dX4_jumperComes_69 : decode cX4_jumperComes 69 = .ok (.iconst 0, 1) := dk_3 (dk_at dksX4_jumperComes_3 0 rfl rfl)
theorem dX4_jumperComes_70 : decode cX4_jumperComes 70 = .ok (.iastore, 1) := dk_79 (dk_at dksX4_jumperComes_3 1 rfl rfl)
theorem dX4_jumperComes_71 : decode cX4_jumperComes 71 = .ok (.aload_n 0, 1) := dk_42 (dk_at dksX4_jumperComes_3 2 rfl rfl)
theorem dX4_jumperComes_72 : decode cX4_jumperComes 72 = .ok (.getfield 9, 3) := dk_180 0 9 (dk_at dksX4_jumperComes_3 3 rfl rfl)
theorem dX4_jumperComes_75 : decode cX4_jumperComes 75 = .ok (.iload 4, 2) := dk_21 4 (dk_at dksX4_jumperComes_3 6 rfl rfl)
theorem dX4_jumperComes_77 : decode cX4_jumperComes 77 = .ok (.bipush 6, 2) := dk_16 6 (dk_at dksX4_jumperComes_3 8 rfl rfl)
theorem dX4_jumperComes_79 : decode cX4_jumperComes 79 = .ok (.iadd, 1) := dk_96 (dk_at dksX4_jumperComes_3 10 rfl rfl)
theorem dX4_jumperComes_80 : decode cX4_jumperComes 80 = .ok (.iload_n 3, 1) := dk_29 (dk_at dksX4_jumperComes_3 11 rfl rfl)
theorem dX4_jumperComes_81 : decode cX4_jumperComes 81 = .ok (.iastore, 1) := dk_79 (dk_at dksX4_jumperComes_3 12 rfl rfl)
theorem dX4_jumperComes_82 : decode cX4_jumperComes 82 = .ok (.aload_n 0, 1) := dk_42 (dk_at dksX4_jumperComes_3 13 rfl rfl)
theorem dX4_jumperComes_83 : decode cX4_jumperComes 83 = .ok (.getfield 9, 3) := dk_180 0 9 (dk_at dksX4_jumperComes_3 14 rfl rfl)
theorem dX4_jumperComes_86 : decode cX4_jumperComes 86 = .ok (.iconst 2, 1) := dk_5 (dk_at dksX4_jumperComes_3 17 rfl rfl)
theorem dX4_jumperComes_87 : decode cX4_jumperComes 87 = .ok (.dup2, 1) := dk_92 (dk_at dksX4_jumperComes_3 18 rfl rfl)
theorem dX4_jumperComes_88 : decode cX4_jumperComes 88 = .ok (.iaload, 1) := dk_46 (dk_at dksX4_jumperComes_3 19 rfl rfl)
theorem dX4_jumperComes_89 : decode cX4_jumperComes 89 = .ok (.iconst 1, 1) := dk_4 (dk_at dksX4_jumperComes_3 20 rfl rfl)
theorem dX4_jumperComes_90 : decode cX4_jumperComes 90 = .ok (.iadd, 1) := dk_96 (dk_at dksX4_jumperComes_3 21 rfl rfl)
theorem dX4_jumperComes_91 : decode cX4_jumperComes 91 = .ok (.iastore, 1) := dk_79 (dk_at dksX4_jumperComes_3 22 rfl rfl)
theorem dX4_jumperComes_92 : decode cX4_jumperComes 92 = .ok (.aload_n 0, 1) := dk_42 (dk_at dksX4_jumperComes_3 23 rfl rfl)
theorem dX4_jumperComes_93 : decode cX4_jumperComes 93 = .ok (.getfield 9, 3) := dk_180 0 9 (dk_at dksX4_jumperComes_4 0 rfl rfl)
theorem dX4_jumperComes_96 : decode cX4_jumperComes 96 = .ok (.iconst 2, 1) := dk_5 (dk_at dksX4_jumperComes_4 3 rfl rfl)
theorem dX4_jumperComes_97 : decode cX4_jumperComes 97 = .ok (.iaload, 1) := dk_46 (dk_at dksX4_jumperComes_4 4 rfl rfl)
theorem dX4_jumperComes_98 : decode cX4_jumperComes 98 = .ok (.iconst 1, 1) := dk_4 (dk_at dksX4_jumperComes_4 5 rfl rfl)
theorem dX4_jumperComes_99 : decode cX4_jumperComes 99 = .ok (.isub, 1) := dk_100 (dk_at dksX4_jumperComes_4 6 rfl rfl)
theorem dX4_jumperComes_100 : decode cX4_jumperComes 100 = .ok (.ireturn, 1) := dk_172 (dk_at dksX4_jumperComes_4 7 rfl rfl)
abbrev cX4_up : ByteArray := prog_17_method_37_code
def yX4_up : MethodName := ⟨RX4, "up", "(II)I"⟩
def dkwX4_up_0 : List UInt8 := [42, 182, 0, 79, 42, 42, 27, 28, 182, 0, 147, 182, 0, 85, 172]
abbrev dktX4_up_0 : List UInt8 := dkwX4_up_0 ++ []
theorem dksX4_up_0 : cX4_up.data.toList.drop 0 = dktX4_up_0 := by decide +kernel
theorem dX4_up_0 : decode cX4_up 0 = .ok (.aload_n 0, 1) := dk_42 (dk_at dksX4_up_0 0 rfl rfl)
theorem dX4_up_1 : decode cX4_up 1 = .ok (.invokevirtual 79, 3) := dk_182 0 79 (dk_at dksX4_up_0 1 rfl rfl)
theorem dX4_up_4 : decode cX4_up 4 = .ok (.aload_n 0, 1) := dk_42 (dk_at dksX4_up_0 4 rfl rfl)
theorem dX4_up_5 : decode cX4_up 5 = .ok (.aload_n 0, 1) := dk_42 (dk_at dksX4_up_0 5 rfl rfl)
theorem dX4_up_6 : decode cX4_up 6 = .ok (.iload_n 1, 1) := dk_27 (dk_at dksX4_up_0 6 rfl rfl)
theorem dX4_up_7 : decode cX4_up 7 = .ok (.iload_n 2, 1) := dk_28 (dk_at dksX4_up_0 7 rfl rfl)
theorem dX4_up_8 : decode cX4_up 8 = .ok (.invokevirtual 147, 3) := dk_182 0 147 (dk_at dksX4_up_0 8 rfl rfl)
theorem dX4_up_11 : decode cX4_up 11 = .ok (.invokevirtual 85, 3) := dk_182 0 85 (dk_at dksX4_up_0 11 rfl rfl)
theorem dX4_up_14 : decode cX4_up 14 = .ok (.ireturn, 1) := dk_172 (dk_at dksX4_up_0 14 rfl rfl)
abbrev cX4_upIt : ByteArray := prog_17_method_36_code
def yX4_upIt : MethodName := ⟨RX4, "upIt", "(II)I"⟩
def dkwX4_upIt_5 : List UInt8 := [28, 182, 0, 107, 42, 28, 4, 182, 0, 120, 100, 172]
abbrev dktX4_upIt_5 : List UInt8 := dkwX4_upIt_5 ++ []
def dkwX4_upIt_4 : List UInt8 := [184, 0, 91, 6, 96, 28, 79, 42, 180, 0, 9, 28, 184, 0, 82, 16, 9, 96, 92, 46, 4, 96, 79, 42]
abbrev dktX4_upIt_4 : List UInt8 := dkwX4_upIt_4 ++ dktX4_upIt_5
def dkwX4_upIt_3 : List UInt8 := [180, 0, 134, 182, 0, 64, 172, 42, 180, 0, 9, 27, 184, 0, 91, 5, 96, 4, 79, 42, 180, 0, 9, 27]
abbrev dktX4_upIt_3 : List UInt8 := dkwX4_upIt_3 ++ dktX4_upIt_4
def dkwX4_upIt_2 : List UInt8 := [5, 16, 6, 42, 180, 0, 134, 16, 16, 42, 28, 182, 0, 88, 182, 0, 143, 167, 0, 13, 42, 5, 29, 42]
abbrev dktX4_upIt_2 : List UInt8 := dkwX4_upIt_2 ++ dktX4_upIt_3
def dkwX4_upIt_1 : List UInt8 := [28, 182, 0, 140, 62, 29, 158, 0, 49, 29, 16, 6, 160, 0, 32, 42, 28, 182, 0, 88, 158, 0, 24, 42]
abbrev dktX4_upIt_1 : List UInt8 := dkwX4_upIt_1 ++ dktX4_upIt_2
def dkwX4_upIt_0 : List UInt8 := [42, 27, 182, 0, 137, 153, 0, 11, 42, 28, 182, 0, 98, 154, 0, 9, 42, 4, 182, 0, 60, 172, 42, 27]
abbrev dktX4_upIt_0 : List UInt8 := dkwX4_upIt_0 ++ dktX4_upIt_1
theorem dksX4_upIt_0 : cX4_upIt.data.toList.drop 0 = dktX4_upIt_0 := by decide +kernel
theorem dksX4_upIt_1 : cX4_upIt.data.toList.drop 24 = dktX4_upIt_1 := dk_seg dksX4_upIt_0 24 rfl rfl
theorem dksX4_upIt_2 : cX4_upIt.data.toList.drop 48 = dktX4_upIt_2 := dk_seg dksX4_upIt_1 24 rfl rfl
theorem dksX4_upIt_3 : cX4_upIt.data.toList.drop 72 = dktX4_upIt_3 := dk_seg dksX4_upIt_2 24 rfl rfl
theorem dksX4_upIt_4 : cX4_upIt.data.toList.drop 96 = dktX4_upIt_4 := dk_seg dksX4_upIt_3 24 rfl rfl
theorem dksX4_upIt_5 : cX4_upIt.data.toList.drop 120 = dktX4_upIt_5 := dk_seg dksX4_upIt_4 24 rfl rfl
theorem dX4_upIt_0 : decode cX4_upIt 0 = .ok (.aload_n 0, 1) := dk_42 (dk_at dksX4_upIt_0 0 rfl rfl)
theorem dX4_upIt_1 : decode cX4_upIt 1 = .ok (.iload_n 1, 1) := dk_27 (dk_at dksX4_upIt_0 1 rfl rfl)
theorem dX4_upIt_2 : decode cX4_upIt 2 = .ok (.invokevirtual 137, 3) := dk_182 0 137 (dk_at dksX4_upIt_0 2 rfl rfl)
theorem dX4_upIt_5 : decode cX4_upIt 5 = .ok (.ifCond .eq 11, 3) := dk_153 0 11 (dk_at dksX4_upIt_0 5 rfl rfl)
theorem dX4_upIt_8 : decode cX4_upIt 8 = .ok (.aload_n 0, 1) := dk_42 (dk_at dksX4_upIt_0 8 rfl rfl)
theorem dX4_upIt_9 : decode cX4_upIt 9 = .ok (.iload_n 2, 1) := dk_28 (dk_at dksX4_upIt_0 9 rfl rfl)
theorem dX4_upIt_10 : decode cX4_upIt 10 = .ok (.invokevirtual 98, 3) := dk_182 0 98 (dk_at dksX4_upIt_0 10 rfl rfl)
theorem dX4_upIt_13 : decode cX4_upIt 13 = .ok (.ifCond .ne 9, 3) := dk_154 0 9 (dk_at dksX4_upIt_0 13 rfl rfl)
theorem dX4_upIt_16 : decode cX4_upIt 16 = .ok (.aload_n 0, 1) := dk_42 (dk_at dksX4_upIt_0 16 rfl rfl)
theorem dX4_upIt_17 : decode cX4_upIt 17 = .ok (.iconst 1, 1) := dk_4 (dk_at dksX4_upIt_0 17 rfl rfl)
theorem dX4_upIt_18 : decode cX4_upIt 18 = .ok (.invokevirtual 60, 3) := dk_182 0 60 (dk_at dksX4_upIt_0 18 rfl rfl)
theorem dX4_upIt_21 : decode cX4_upIt 21 = .ok (.ireturn, 1) := dk_172 (dk_at dksX4_upIt_0 21 rfl rfl)
theorem dX4_upIt_22 : decode cX4_upIt 22 = .ok (.aload_n 0, 1) := dk_42 (dk_at dksX4_upIt_0 22 rfl rfl)
theorem dX4_upIt_23 : decode cX4_upIt 23 = .ok (.iload_n 1, 1) := dk_27 (dk_at dksX4_upIt_0 23 rfl rfl)
theorem dX4_upIt_24 : decode cX4_upIt 24 = .ok (.iload_n 2, 1) := dk_28 (dk_at dksX4_upIt_1 0 rfl rfl)
theorem dX4_upIt_25 : decode cX4_upIt 25 = .ok (.invokevirtual 140, 3) := dk_182 0 140 (dk_at dksX4_upIt_1 1 rfl rfl)
theorem dX4_upIt_28 : decode cX4_upIt 28 = .ok (.istore_n 3, 1) := dk_62 (dk_at dksX4_upIt_1 4 rfl rfl)
theorem dX4_upIt_29 : decode cX4_upIt 29 = .ok (.iload_n 3, 1) := dk_29 (dk_at dksX4_upIt_1 5 rfl rfl)
theorem dX4_upIt_30 : decode cX4_upIt 30 = .ok (.ifCond .le 49, 3) := dk_158 0 49 (dk_at dksX4_upIt_1 6 rfl rfl)
theorem dX4_upIt_33 : decode cX4_upIt 33 = .ok (.iload_n 3, 1) := dk_29 (dk_at dksX4_upIt_1 9 rfl rfl)
theorem dX4_upIt_34 : decode cX4_upIt 34 = .ok (.bipush 6, 2) := dk_16 6 (dk_at dksX4_upIt_1 10 rfl rfl)
theorem dX4_upIt_36 : decode cX4_upIt 36 = .ok (.if_icmp .ne 32, 3) := dk_160 0 32 (dk_at dksX4_upIt_1 12 rfl rfl)
theorem dX4_upIt_39 : decode cX4_upIt 39 = .ok (.aload_n 0, 1) := dk_42 (dk_at dksX4_upIt_1 15 rfl rfl)
theorem dX4_upIt_40 : decode cX4_upIt 40 = .ok (.iload_n 2, 1) := dk_28 (dk_at dksX4_upIt_1 16 rfl rfl)
theorem dX4_upIt_41 : decode cX4_upIt 41 = .ok (.invokevirtual 88, 3) := dk_182 0 88 (dk_at dksX4_upIt_1 17 rfl rfl)
theorem dX4_upIt_44 : decode cX4_upIt 44 = .ok (.ifCond .le 24, 3) := dk_158 0 24 (dk_at dksX4_upIt_1 20 rfl rfl)
theorem dX4_upIt_47 : decode cX4_upIt 47 = .ok (.aload_n 0, 1) := dk_42 (dk_at dksX4_upIt_1 23 rfl rfl)
theorem dX4_upIt_48 : decode cX4_upIt 48 = .ok (.iconst 2, 1) := dk_5 (dk_at dksX4_upIt_2 0 rfl rfl)
theorem dX4_upIt_49 : decode cX4_upIt 49 = .ok (.bipush 6, 2) := dk_16 6 (dk_at dksX4_upIt_2 1 rfl rfl)
theorem dX4_upIt_51 : decode cX4_upIt 51 = .ok (.aload_n 0, 1) := dk_42 (dk_at dksX4_upIt_2 3 rfl rfl)
theorem dX4_upIt_52 : decode cX4_upIt 52 = .ok (.getfield 134, 3) := dk_180 0 134 (dk_at dksX4_upIt_2 4 rfl rfl)
theorem dX4_upIt_55 : decode cX4_upIt 55 = .ok (.bipush 16, 2) := dk_16 16 (dk_at dksX4_upIt_2 7 rfl rfl)
theorem dX4_upIt_57 : decode cX4_upIt 57 = .ok (.aload_n 0, 1) := dk_42 (dk_at dksX4_upIt_2 9 rfl rfl)
theorem dX4_upIt_58 : decode cX4_upIt 58 = .ok (.iload_n 2, 1) := dk_28 (dk_at dksX4_upIt_2 10 rfl rfl)
theorem dX4_upIt_59 : decode cX4_upIt 59 = .ok (.invokevirtual 88, 3) := dk_182 0 88 (dk_at dksX4_upIt_2 11 rfl rfl)
theorem dX4_upIt_62 : decode cX4_upIt 62 = .ok (.invokevirtual 143, 3) := dk_182 0 143 (dk_at dksX4_upIt_2 14 rfl rfl)
theorem dX4_upIt_65 : decode cX4_upIt 65 = .ok (.goto 13, 3) := dk_167 0 13 (dk_at dksX4_upIt_2 17 rfl rfl)
theorem dX4_upIt_68 : decode cX4_upIt 68 = .ok (.aload_n 0, 1) := dk_42 (dk_at dksX4_upIt_2 20 rfl rfl)
theorem dX4_upIt_69 : decode cX4_upIt 69 = .ok (.iconst 2, 1) := dk_5 (dk_at dksX4_upIt_2 21 rfl rfl)
theorem dX4_upIt_70 : decode cX4_upIt 70 = .ok (.iload_n 3, 1) := dk_29 (dk_at dksX4_upIt_2 22 rfl rfl)
theorem dX4_upIt_71 : decode cX4_upIt 71 = .ok (.aload_n 0, 1) := dk_42 (dk_at dksX4_upIt_2 23 rfl rfl)
theorem dX4_upIt_72 : decode cX4_upIt 72 = .ok (.getfield 134, 3) := dk_180 0 134 (dk_at dksX4_upIt_3 0 rfl rfl)
theorem dX4_upIt_75 : decode cX4_upIt 75 = .ok (.invokevirtual 64, 3) := dk_182 0 64 (dk_at dksX4_upIt_3 3 rfl rfl)
theorem dX4_upIt_78 : decode cX4_upIt 78 = .ok (.ireturn, 1) := dk_172 (dk_at dksX4_upIt_3 6 rfl rfl)
theorem dX4_upIt_79 : decode cX4_upIt 79 = .ok (.aload_n 0, 1) := dk_42 (dk_at dksX4_upIt_3 7 rfl rfl)
theorem dX4_upIt_80 : decode cX4_upIt 80 = .ok (.getfield 9, 3) := dk_180 0 9 (dk_at dksX4_upIt_3 8 rfl rfl)
theorem dX4_upIt_83 : decode cX4_upIt 83 = .ok (.iload_n 1, 1) := dk_27 (dk_at dksX4_upIt_3 11 rfl rfl)
theorem dX4_upIt_84 : decode cX4_upIt 84 = .ok (.invokestatic 91, 3) := dk_184 0 91 (dk_at dksX4_upIt_3 12 rfl rfl)
theorem dX4_upIt_87 : decode cX4_upIt 87 = .ok (.iconst 2, 1) := dk_5 (dk_at dksX4_upIt_3 15 rfl rfl)
theorem dX4_upIt_88 : decode cX4_upIt 88 = .ok (.iadd, 1) := dk_96 (dk_at dksX4_upIt_3 16 rfl rfl)
theorem dX4_upIt_89 : decode cX4_upIt 89 = .ok (.iconst 1, 1) := dk_4 (dk_at dksX4_upIt_3 17 rfl rfl)
theorem dX4_upIt_90 : decode cX4_upIt 90 = .ok (.iastore, 1) := dk_79 (dk_at dksX4_upIt_3 18 rfl rfl)
theorem dX4_upIt_91 : decode cX4_upIt 91 = .ok (.aload_n 0, 1) := dk_42 (dk_at dksX4_upIt_3 19 rfl rfl)
theorem dX4_upIt_92 : decode cX4_upIt 92 = .ok (.getfield 9, 3) := dk_180 0 9 (dk_at dksX4_upIt_3 20 rfl rfl)
theorem dX4_upIt_95 : decode cX4_upIt 95 = .ok (.iload_n 1, 1) := dk_27 (dk_at dksX4_upIt_3 23 rfl rfl)
theorem dX4_upIt_96 : decode cX4_upIt 96 = .ok (.invokestatic 91, 3) := dk_184 0 91 (dk_at dksX4_upIt_4 0 rfl rfl)
theorem dX4_upIt_99 : decode cX4_upIt 99 = .ok (.iconst 3, 1) := dk_6 (dk_at dksX4_upIt_4 3 rfl rfl)
theorem dX4_upIt_100 : decode cX4_upIt 100 = .ok (.iadd, 1) := dk_96 (dk_at dksX4_upIt_4 4 rfl rfl)
theorem dX4_upIt_101 : decode cX4_upIt 101 = .ok (.iload_n 2, 1) := dk_28 (dk_at dksX4_upIt_4 5 rfl rfl)
theorem dX4_upIt_102 : decode cX4_upIt 102 = .ok (.iastore, 1) := dk_79 (dk_at dksX4_upIt_4 6 rfl rfl)
theorem dX4_upIt_103 : decode cX4_upIt 103 = .ok (.aload_n 0, 1) := dk_42 (dk_at dksX4_upIt_4 7 rfl rfl)
theorem dX4_upIt_104 : decode cX4_upIt 104 = .ok (.getfield 9, 3) := dk_180 0 9 (dk_at dksX4_upIt_4 8 rfl rfl)
theorem dX4_upIt_107 : decode cX4_upIt 107 = .ok (.iload_n 2, 1) := dk_28 (dk_at dksX4_upIt_4 11 rfl rfl)
theorem dX4_upIt_108 : decode cX4_upIt 108 = .ok (.invokestatic 82, 3) := dk_184 0 82 (dk_at dksX4_upIt_4 12 rfl rfl)
theorem dX4_upIt_111 : decode cX4_upIt 111 = .ok (.bipush 9, 2) := dk_16 9 (dk_at dksX4_upIt_4 15 rfl rfl)
theorem dX4_upIt_113 : decode cX4_upIt 113 = .ok (.iadd, 1) := dk_96 (dk_at dksX4_upIt_4 17 rfl rfl)
theorem dX4_upIt_114 : decode cX4_upIt 114 = .ok (.dup2, 1) := dk_92 (dk_at dksX4_upIt_4 18 rfl rfl)
theorem dX4_upIt_115 : decode cX4_upIt 115 = .ok (.iaload, 1) := dk_46 (dk_at dksX4_upIt_4 19 rfl rfl)
theorem dX4_upIt_116 : decode cX4_upIt 116 = .ok (.iconst 1, 1) := dk_4 (dk_at dksX4_upIt_4 20 rfl rfl)
theorem dX4_upIt_117 : decode cX4_upIt 117 = .ok (.iadd, 1) := dk_96 (dk_at dksX4_upIt_4 21 rfl rfl)
theorem dX4_upIt_118 : decode cX4_upIt 118 = .ok (.iastore, 1) := dk_79 (dk_at dksX4_upIt_4 22 rfl rfl)
theorem dX4_upIt_119 : decode cX4_upIt 119 = .ok (.aload_n 0, 1) := dk_42 (dk_at dksX4_upIt_4 23 rfl rfl)
theorem dX4_upIt_120 : decode cX4_upIt 120 = .ok (.iload_n 2, 1) := dk_28 (dk_at dksX4_upIt_5 0 rfl rfl)
theorem dX4_upIt_121 : decode cX4_upIt 121 = .ok (.invokevirtual 107, 3) := dk_182 0 107 (dk_at dksX4_upIt_5 1 rfl rfl)
theorem dX4_upIt_124 : decode cX4_upIt 124 = .ok (.aload_n 0, 1) := dk_42 (dk_at dksX4_upIt_5 4 rfl rfl)
theorem dX4_upIt_125 : decode cX4_upIt 125 = .ok (.iload_n 2, 1) := dk_28 (dk_at dksX4_upIt_5 5 rfl rfl)
theorem dX4_upIt_126 : decode cX4_upIt 126 = .ok (.iconst 1, 1) := dk_4 (dk_at dksX4_upIt_5 6 rfl rfl)
theorem dX4_upIt_127 : decode cX4_upIt 127 = .ok (.invokevirtual 120, 3) := dk_182 0 120 (dk_at dksX4_upIt_5 7 rfl rfl)
theorem dX4_upIt_130 : decode cX4_upIt 130 = .ok (.isub, 1) := dk_100 (dk_at dksX4_upIt_5 10 rfl rfl)
theorem dX4_upIt_131 : decode cX4_upIt 131 = .ok (.ireturn, 1) := dk_172 (dk_at dksX4_upIt_5 11 rfl rfl)
abbrev cX4_isJumper : ByteArray := prog_17_method_13_code
def yX4_isJumper : MethodName := ⟨RX4, "isJumper", "(I)Z"⟩
def dkwX4_isJumper_0 : List UInt8 := [27, 133, 9, 42, 180, 0, 9, 5, 46, 4, 100, 133, 184, 0, 71, 172]
abbrev dktX4_isJumper_0 : List UInt8 := dkwX4_isJumper_0 ++ []
theorem dksX4_isJumper_0 : cX4_isJumper.data.toList.drop 0 = dktX4_isJumper_0 := by decide +kernel
theorem dX4_isJumper_0 : decode cX4_isJumper 0 = .ok (.iload_n 1, 1) := dk_27 (dk_at dksX4_isJumper_0 0 rfl rfl)
theorem dX4_isJumper_1 : decode cX4_isJumper 1 = .ok (.i2l, 1) := dk_133 (dk_at dksX4_isJumper_0 1 rfl rfl)
theorem dX4_isJumper_2 : decode cX4_isJumper 2 = .ok (.lconst 0, 1) := dk_9 (dk_at dksX4_isJumper_0 2 rfl rfl)
theorem dX4_isJumper_3 : decode cX4_isJumper 3 = .ok (.aload_n 0, 1) := dk_42 (dk_at dksX4_isJumper_0 3 rfl rfl)
theorem dX4_isJumper_4 : decode cX4_isJumper 4 = .ok (.getfield 9, 3) := dk_180 0 9 (dk_at dksX4_isJumper_0 4 rfl rfl)
theorem dX4_isJumper_7 : decode cX4_isJumper 7 = .ok (.iconst 2, 1) := dk_5 (dk_at dksX4_isJumper_0 7 rfl rfl)
theorem dX4_isJumper_8 : decode cX4_isJumper 8 = .ok (.iaload, 1) := dk_46 (dk_at dksX4_isJumper_0 8 rfl rfl)
theorem dX4_isJumper_9 : decode cX4_isJumper 9 = .ok (.iconst 1, 1) := dk_4 (dk_at dksX4_isJumper_0 9 rfl rfl)
theorem dX4_isJumper_10 : decode cX4_isJumper 10 = .ok (.isub, 1) := dk_100 (dk_at dksX4_isJumper_0 10 rfl rfl)
theorem dX4_isJumper_11 : decode cX4_isJumper 11 = .ok (.i2l, 1) := dk_133 (dk_at dksX4_isJumper_0 11 rfl rfl)
theorem dX4_isJumper_12 : decode cX4_isJumper 12 = .ok (.invokestatic 71, 3) := dk_184 0 71 (dk_at dksX4_isJumper_0 12 rfl rfl)
theorem dX4_isJumper_15 : decode cX4_isJumper 15 = .ok (.ireturn, 1) := dk_172 (dk_at dksX4_isJumper_0 15 rfl rfl)
abbrev cX4_upReason : ByteArray := prog_17_method_35_code
def yX4_upReason : MethodName := ⟨RX4, "upReason", "(II)I"⟩
def dkwX4_upReason_9 : List UInt8 := [3, 172]
abbrev dktX4_upReason_9 : List UInt8 := dkwX4_upReason_9 ++ []
def dkwX4_upReason_8 : List UInt8 := [180, 0, 9, 29, 3, 96, 46, 16, 25, 162, 0, 7, 27, 167, 0, 5, 21, 4, 181, 0, 134, 16, 7, 172]
abbrev dktX4_upReason_8 : List UInt8 := dkwX4_upReason_8 ++ dktX4_upReason_9
def dkwX4_upReason_7 : List UInt8 := [161, 0, 20, 42, 180, 0, 9, 21, 4, 184, 0, 91, 3, 96, 46, 16, 25, 162, 0, 29, 42, 42]
abbrev dktX4_upReason_7 : List UInt8 := dkwX4_upReason_7 ++ dktX4_upReason_8
def dkwX4_upReason_6 : List UInt8 := [159, 0, 68, 42, 28, 182, 0, 124, 2, 160, 0, 59, 42, 180, 0, 9, 29, 3, 96, 46, 16, 25]
abbrev dktX4_upReason_6 : List UInt8 := dkwX4_upReason_6 ++ dktX4_upReason_7
def dkwX4_upReason_5 : List UInt8 := [21, 4, 181, 0, 134, 8, 172, 21, 5, 158, 0, 12, 42, 21, 5, 181, 0, 134, 16, 6, 172, 21, 4, 2]
abbrev dktX4_upReason_5 : List UInt8 := dkwX4_upReason_5 ++ dktX4_upReason_6
def dkwX4_upReason_4 : List UInt8 := [96, 46, 154, 0, 10, 42, 28, 181, 0, 134, 7, 172, 42, 28, 3, 182, 0, 120, 5, 160, 0, 11, 42]
abbrev dktX4_upReason_4 : List UInt8 := dkwX4_upReason_4 ++ dktX4_upReason_5
def dkwX4_upReason_3 : List UInt8 := [42, 42, 180, 0, 9, 29, 4, 96, 46, 181, 0, 134, 6, 172, 42, 180, 0, 9, 28, 184, 0, 82, 16, 8]
abbrev dktX4_upReason_3 : List UInt8 := dkwX4_upReason_3 ++ dktX4_upReason_4
def dkwX4_upReason_2 : List UInt8 := [180, 0, 9, 29, 5, 96, 46, 181, 0, 134, 5, 172, 42, 180, 0, 9, 29, 7, 96, 46, 2, 160, 0, 17]
abbrev dktX4_upReason_2 : List UInt8 := dkwX4_upReason_2 ++ dktX4_upReason_3
def dkwX4_upReason_1 : List UInt8 := [96, 46, 96, 42, 28, 182, 0, 107, 100, 54, 5, 42, 180, 0, 9, 29, 5, 96, 46, 153, 0, 17, 42, 42]
abbrev dktX4_upReason_1 : List UInt8 := dkwX4_upReason_1 ++ dktX4_upReason_2
def dkwX4_upReason_0 : List UInt8 := [27, 184, 0, 91, 62, 42, 28, 182, 0, 104, 54, 4, 42, 28, 4, 182, 0, 120, 42, 180, 0, 9, 29, 3]
abbrev dktX4_upReason_0 : List UInt8 := dkwX4_upReason_0 ++ dktX4_upReason_1
theorem dksX4_upReason_0 : cX4_upReason.data.toList.drop 0 = dktX4_upReason_0 := by decide +kernel
theorem dksX4_upReason_1 : cX4_upReason.data.toList.drop 24 = dktX4_upReason_1 := dk_seg dksX4_upReason_0 24 rfl rfl
theorem dksX4_upReason_2 : cX4_upReason.data.toList.drop 48 = dktX4_upReason_2 := dk_seg dksX4_upReason_1 24 rfl rfl
theorem dksX4_upReason_3 : cX4_upReason.data.toList.drop 72 = dktX4_upReason_3 := dk_seg dksX4_upReason_2 24 rfl rfl
theorem dksX4_upReason_4 : cX4_upReason.data.toList.drop 96 = dktX4_upReason_4 := dk_seg dksX4_upReason_3 24 rfl rfl
theorem dksX4_upReason_5 : cX4_upReason.data.toList.drop 119 = dktX4_upReason_5 := dk_seg dksX4_upReason_4 23 rfl rfl
theorem dksX4_upReason_6 : cX4_upReason.data.toList.drop 143 = dktX4_upReason_6 := dk_seg dksX4_upReason_5 24 rfl rfl
theorem dksX4_upReason_7 : cX4_upReason.data.toList.drop 165 = dktX4_upReason_7 := dk_seg dksX4_upReason_6 22 rfl rfl
theorem dksX4_upReason_8 : cX4_upReason.data.toList.drop 187 = dktX4_upReason_8 := dk_seg dksX4_upReason_7 22 rfl rfl
theorem dksX4_upReason_9 : cX4_upReason.data.toList.drop 211 = dktX4_upReason_9 := dk_seg dksX4_upReason_8 24 rfl rfl
theorem dX4_upReason_0 : decode cX4_upReason 0 = .ok (.iload_n 1, 1) := dk_27 (dk_at dksX4_upReason_0 0 rfl rfl)
theorem dX4_upReason_1 : decode cX4_upReason 1 = .ok (.invokestatic 91, 3) := dk_184 0 91 (dk_at dksX4_upReason_0 1 rfl rfl)
theorem dX4_upReason_4 : decode cX4_upReason 4 = .ok (.istore_n 3, 1) := dk_62 (dk_at dksX4_upReason_0 4 rfl rfl)
theorem dX4_upReason_5 : decode cX4_upReason 5 = .ok (.aload_n 0, 1) := dk_42 (dk_at dksX4_upReason_0 5 rfl rfl)
theorem dX4_upReason_6 : decode cX4_upReason 6 = .ok (.iload_n 2, 1) := dk_28 (dk_at dksX4_upReason_0 6 rfl rfl)
theorem dX4_upReason_7 : decode cX4_upReason 7 = .ok (.invokevirtual 104, 3) := dk_182 0 104 (dk_at dksX4_upReason_0 7 rfl rfl)
theorem dX4_upReason_10 : decode cX4_upReason 10 = .ok (.istore 4, 2) := dk_54 4 (dk_at dksX4_upReason_0 10 rfl rfl)
theorem dX4_upReason_12 : decode cX4_upReason 12 = .ok (.aload_n 0, 1) := dk_42 (dk_at dksX4_upReason_0 12 rfl rfl)
theorem dX4_upReason_13 : decode cX4_upReason 13 = .ok (.iload_n 2, 1) := dk_28 (dk_at dksX4_upReason_0 13 rfl rfl)
theorem dX4_upReason_14 : decode cX4_upReason 14 = .ok (.iconst 1, 1) := dk_4 (dk_at dksX4_upReason_0 14 rfl rfl)
theorem dX4_upReason_15 : decode cX4_upReason 15 = .ok (.invokevirtual 120, 3) := dk_182 0 120 (dk_at dksX4_upReason_0 15 rfl rfl)
theorem dX4_upReason_18 : decode cX4_upReason 18 = .ok (.aload_n 0, 1) := dk_42 (dk_at dksX4_upReason_0 18 rfl rfl)
theorem dX4_upReason_19 : decode cX4_upReason 19 = .ok (.getfield 9, 3) := dk_180 0 9 (dk_at dksX4_upReason_0 19 rfl rfl)
theorem dX4_upReason_22 : decode cX4_upReason 22 = .ok (.iload_n 3, 1) := dk_29 (dk_at dksX4_upReason_0 22 rfl rfl)
theorem dX4_upReason_23 : decode cX4_upReason 23 = .ok (.iconst 0, 1) := dk_3 (dk_at dksX4_upReason_0 23 rfl rfl)
theorem dX4_upReason_24 : decode cX4_upReason 24 = .ok (.iadd, 1) := dk_96 (dk_at dksX4_upReason_1 0 rfl rfl)
theorem dX4_upReason_25 : decode cX4_upReason 25 = .ok (.iaload, 1) := dk_46 (dk_at dksX4_upReason_1 1 rfl rfl)
theorem dX4_upReason_26 : decode cX4_upReason 26 = .ok (.iadd, 1) := dk_96 (dk_at dksX4_upReason_1 2 rfl rfl)
theorem dX4_upReason_27 : decode cX4_upReason 27 = .ok (.aload_n 0, 1) := dk_42 (dk_at dksX4_upReason_1 3 rfl rfl)
theorem dX4_upReason_28 : decode cX4_upReason 28 = .ok (.iload_n 2, 1) := dk_28 (dk_at dksX4_upReason_1 4 rfl rfl)
theorem dX4_upReason_29 : decode cX4_upReason 29 = .ok (.invokevirtual 107, 3) := dk_182 0 107 (dk_at dksX4_upReason_1 5 rfl rfl)
theorem dX4_upReason_32 : decode cX4_upReason 32 = .ok (.isub, 1) := dk_100 (dk_at dksX4_upReason_1 8 rfl rfl)
theorem dX4_upReason_33 : decode cX4_upReason 33 = .ok (.istore 5, 2) := dk_54 5 (dk_at dksX4_upReason_1 9 rfl rfl)
theorem dX4_upReason_35 : decode cX4_upReason 35 = .ok (.aload_n 0, 1) := dk_42 (dk_at dksX4_upReason_1 11 rfl rfl)
theorem dX4_upReason_36 : decode cX4_upReason 36 = .ok (.getfield 9, 3) := dk_180 0 9 (dk_at dksX4_upReason_1 12 rfl rfl)
theorem dX4_upReason_39 : decode cX4_upReason 39 = .ok (.iload_n 3, 1) := dk_29 (dk_at dksX4_upReason_1 15 rfl rfl)
theorem dX4_upReason_40 : decode cX4_upReason 40 = .ok (.iconst 2, 1) := dk_5 (dk_at dksX4_upReason_1 16 rfl rfl)
theorem dX4_upReason_41 : decode cX4_upReason 41 = .ok (.iadd, 1) := dk_96 (dk_at dksX4_upReason_1 17 rfl rfl)
theorem dX4_upReason_42 : decode cX4_upReason 42 = .ok (.iaload, 1) := dk_46 (dk_at dksX4_upReason_1 18 rfl rfl)
theorem dX4_upReason_43 : decode cX4_upReason 43 = .ok (.ifCond .eq 17, 3) := dk_153 0 17 (dk_at dksX4_upReason_1 19 rfl rfl)
theorem dX4_upReason_46 : decode cX4_upReason 46 = .ok (.aload_n 0, 1) := dk_42 (dk_at dksX4_upReason_1 22 rfl rfl)
theorem dX4_upReason_47 : decode cX4_upReason 47 = .ok (.aload_n 0, 1) := dk_42 (dk_at dksX4_upReason_1 23 rfl rfl)
theorem dX4_upReason_48 : decode cX4_upReason 48 = .ok (.getfield 9, 3) := dk_180 0 9 (dk_at dksX4_upReason_2 0 rfl rfl)
theorem dX4_upReason_51 : decode cX4_upReason 51 = .ok (.iload_n 3, 1) := dk_29 (dk_at dksX4_upReason_2 3 rfl rfl)
theorem dX4_upReason_52 : decode cX4_upReason 52 = .ok (.iconst 2, 1) := dk_5 (dk_at dksX4_upReason_2 4 rfl rfl)
theorem dX4_upReason_53 : decode cX4_upReason 53 = .ok (.iadd, 1) := dk_96 (dk_at dksX4_upReason_2 5 rfl rfl)
theorem dX4_upReason_54 : decode cX4_upReason 54 = .ok (.iaload, 1) := dk_46 (dk_at dksX4_upReason_2 6 rfl rfl)
theorem dX4_upReason_55 : decode cX4_upReason 55 = .ok (.putfield 134, 3) := dk_181 0 134 (dk_at dksX4_upReason_2 7 rfl rfl)
theorem dX4_upReason_58 : decode cX4_upReason 58 = .ok (.iconst 2, 1) := dk_5 (dk_at dksX4_upReason_2 10 rfl rfl)
theorem dX4_upReason_59 : decode cX4_upReason 59 = .ok (.ireturn, 1) := dk_172 (dk_at dksX4_upReason_2 11 rfl rfl)
theorem dX4_upReason_60 : decode cX4_upReason 60 = .ok (.aload_n 0, 1) := dk_42 (dk_at dksX4_upReason_2 12 rfl rfl)
theorem dX4_upReason_61 : decode cX4_upReason 61 = .ok (.getfield 9, 3) := dk_180 0 9 (dk_at dksX4_upReason_2 13 rfl rfl)
theorem dX4_upReason_64 : decode cX4_upReason 64 = .ok (.iload_n 3, 1) := dk_29 (dk_at dksX4_upReason_2 16 rfl rfl)
theorem dX4_upReason_65 : decode cX4_upReason 65 = .ok (.iconst 4, 1) := dk_7 (dk_at dksX4_upReason_2 17 rfl rfl)
theorem dX4_upReason_66 : decode cX4_upReason 66 = .ok (.iadd, 1) := dk_96 (dk_at dksX4_upReason_2 18 rfl rfl)
theorem dX4_upReason_67 : decode cX4_upReason 67 = .ok (.iaload, 1) := dk_46 (dk_at dksX4_upReason_2 19 rfl rfl)
theorem dX4_upReason_68 : decode cX4_upReason 68 = .ok (.iconst (-1), 1) := dk_2 (dk_at dksX4_upReason_2 20 rfl rfl)
theorem dX4_upReason_69 : decode cX4_upReason 69 = .ok (.if_icmp .ne 17, 3) := dk_160 0 17 (dk_at dksX4_upReason_2 21 rfl rfl)
theorem dX4_upReason_72 : decode cX4_upReason 72 = .ok (.aload_n 0, 1) := dk_42 (dk_at dksX4_upReason_3 0 rfl rfl)
theorem dX4_upReason_73 : decode cX4_upReason 73 = .ok (.aload_n 0, 1) := dk_42 (dk_at dksX4_upReason_3 1 rfl rfl)
theorem dX4_upReason_74 : decode cX4_upReason 74 = .ok (.getfield 9, 3) := dk_180 0 9 (dk_at dksX4_upReason_3 2 rfl rfl)
theorem dX4_upReason_77 : decode cX4_upReason 77 = .ok (.iload_n 3, 1) := dk_29 (dk_at dksX4_upReason_3 5 rfl rfl)
theorem dX4_upReason_78 : decode cX4_upReason 78 = .ok (.iconst 1, 1) := dk_4 (dk_at dksX4_upReason_3 6 rfl rfl)
theorem dX4_upReason_79 : decode cX4_upReason 79 = .ok (.iadd, 1) := dk_96 (dk_at dksX4_upReason_3 7 rfl rfl)
theorem dX4_upReason_80 : decode cX4_upReason 80 = .ok (.iaload, 1) := dk_46 (dk_at dksX4_upReason_3 8 rfl rfl)
theorem dX4_upReason_81 : decode cX4_upReason 81 = .ok (.putfield 134, 3) := dk_181 0 134 (dk_at dksX4_upReason_3 9 rfl rfl)
theorem dX4_upReason_84 : decode cX4_upReason 84 = .ok (.iconst 3, 1) := dk_6 (dk_at dksX4_upReason_3 12 rfl rfl)
theorem dX4_upReason_85 : decode cX4_upReason 85 = .ok (.ireturn, 1) := dk_172 (dk_at dksX4_upReason_3 13 rfl rfl)
theorem dX4_upReason_86 : decode cX4_upReason 86 = .ok (.aload_n 0, 1) := dk_42 (dk_at dksX4_upReason_3 14 rfl rfl)
theorem dX4_upReason_87 : decode cX4_upReason 87 = .ok (.getfield 9, 3) := dk_180 0 9 (dk_at dksX4_upReason_3 15 rfl rfl)
theorem dX4_upReason_90 : decode cX4_upReason 90 = .ok (.iload_n 2, 1) := dk_28 (dk_at dksX4_upReason_3 18 rfl rfl)
theorem dX4_upReason_91 : decode cX4_upReason 91 = .ok (.invokestatic 82, 3) := dk_184 0 82 (dk_at dksX4_upReason_3 19 rfl rfl)
theorem dX4_upReason_94 : decode cX4_upReason 94 = .ok (.bipush 8, 2) := dk_16 8 (dk_at dksX4_upReason_3 22 rfl rfl)
theorem dX4_upReason_96 : decode cX4_upReason 96 = .ok (.iadd, 1) := dk_96 (dk_at dksX4_upReason_4 0 rfl rfl)
theorem dX4_upReason_97 : decode cX4_upReason 97 = .ok (.iaload, 1) := dk_46 (dk_at dksX4_upReason_4 1 rfl rfl)
theorem dX4_upReason_98 : decode cX4_upReason 98 = .ok (.ifCond .ne 10, 3) := dk_154 0 10 (dk_at dksX4_upReason_4 2 rfl rfl)
theorem dX4_upReason_101 : decode cX4_upReason 101 = .ok (.aload_n 0, 1) := dk_42 (dk_at dksX4_upReason_4 5 rfl rfl)
theorem dX4_upReason_102 : decode cX4_upReason 102 = .ok (.iload_n 2, 1) := dk_28 (dk_at dksX4_upReason_4 6 rfl rfl)
theorem dX4_upReason_103 : decode cX4_upReason 103 = .ok (.putfield 134, 3) := dk_181 0 134 (dk_at dksX4_upReason_4 7 rfl rfl)
theorem dX4_upReason_106 : decode cX4_upReason 106 = .ok (.iconst 4, 1) := dk_7 (dk_at dksX4_upReason_4 10 rfl rfl)
theorem dX4_upReason_107 : decode cX4_upReason 107 = .ok (.ireturn, 1) := dk_172 (dk_at dksX4_upReason_4 11 rfl rfl)
theorem dX4_upReason_108 : decode cX4_upReason 108 = .ok (.aload_n 0, 1) := dk_42 (dk_at dksX4_upReason_4 12 rfl rfl)
theorem dX4_upReason_109 : decode cX4_upReason 109 = .ok (.iload_n 2, 1) := dk_28 (dk_at dksX4_upReason_4 13 rfl rfl)
theorem dX4_upReason_110 : decode cX4_upReason 110 = .ok (.iconst 0, 1) := dk_3 (dk_at dksX4_upReason_4 14 rfl rfl)
theorem dX4_upReason_111 : decode cX4_upReason 111 = .ok (.invokevirtual 120, 3) := dk_182 0 120 (dk_at dksX4_upReason_4 15 rfl rfl)
theorem dX4_upReason_114 : decode cX4_upReason 114 = .ok (.iconst 2, 1) := dk_5 (dk_at dksX4_upReason_4 18 rfl rfl)
theorem dX4_upReason_115 : decode cX4_upReason 115 = .ok (.if_icmp .ne 11, 3) := dk_160 0 11 (dk_at dksX4_upReason_4 19 rfl rfl)
theorem dX4_upReason_118 : decode cX4_upReason 118 = .ok (.aload_n 0, 1) := dk_42 (dk_at dksX4_upReason_4 22 rfl rfl)
theorem dX4_upReason_119 : decode cX4_upReason 119 = .ok (.iload 4, 2) := dk_21 4 (dk_at dksX4_upReason_5 0 rfl rfl)
theorem dX4_upReason_121 : decode cX4_upReason 121 = .ok (.putfield 134, 3) := dk_181 0 134 (dk_at dksX4_upReason_5 2 rfl rfl)
theorem dX4_upReason_124 : decode cX4_upReason 124 = .ok (.iconst 5, 1) := dk_8 (dk_at dksX4_upReason_5 5 rfl rfl)
theorem dX4_upReason_125 : decode cX4_upReason 125 = .ok (.ireturn, 1) := dk_172 (dk_at dksX4_upReason_5 6 rfl rfl)
theorem dX4_upReason_126 : decode cX4_upReason 126 = .ok (.iload 5, 2) := dk_21 5 (dk_at dksX4_upReason_5 7 rfl rfl)
theorem dX4_upReason_128 : decode cX4_upReason 128 = .ok (.ifCond .le 12, 3) := dk_158 0 12 (dk_at dksX4_upReason_5 9 rfl rfl)
theorem dX4_upReason_131 : decode cX4_upReason 131 = .ok (.aload_n 0, 1) := dk_42 (dk_at dksX4_upReason_5 12 rfl rfl)
theorem dX4_upReason_132 : decode cX4_upReason 132 = .ok (.iload 5, 2) := dk_21 5 (dk_at dksX4_upReason_5 13 rfl rfl)
theorem dX4_upReason_134 : decode cX4_upReason 134 = .ok (.putfield 134, 3) := dk_181 0 134 (dk_at dksX4_upReason_5 15 rfl rfl)
theorem dX4_upReason_137 : decode cX4_upReason 137 = .ok (.bipush 6, 2) := dk_16 6 (dk_at dksX4_upReason_5 18 rfl rfl)
theorem dX4_upReason_139 : decode cX4_upReason 139 = .ok (.ireturn, 1) := dk_172 (dk_at dksX4_upReason_5 20 rfl rfl)
theorem dX4_upReason_140 : decode cX4_upReason 140 = .ok (.iload 4, 2) := dk_21 4 (dk_at dksX4_upReason_5 21 rfl rfl)
theorem dX4_upReason_142 : decode cX4_upReason 142 = .ok (.iconst (-1), 1) := dk_2 (dk_at dksX4_upReason_5 23 rfl rfl)
theorem dX4_upReason_143 : decode cX4_upReason 143 = .ok (.if_icmp .eq 68, 3) := dk_159 0 68 (dk_at dksX4_upReason_6 0 rfl rfl)
theorem dX4_upReason_146 : decode cX4_upReason 146 = .ok (.aload_n 0, 1) := dk_42 (dk_at dksX4_upReason_6 3 rfl rfl)
theorem dX4_upReason_147 : decode cX4_upReason 147 = .ok (.iload_n 2, 1) := dk_28 (dk_at dksX4_upReason_6 4 rfl rfl)
theorem dX4_upReason_148 : decode cX4_upReason 148 = .ok (.invokevirtual 124, 3) := dk_182 0 124 (dk_at dksX4_upReason_6 5 rfl rfl)
theorem dX4_upReason_151 : decode cX4_upReason 151 = .ok (.iconst (-1), 1) := dk_2 (dk_at dksX4_upReason_6 8 rfl rfl)
theorem dX4_upReason_152 : decode cX4_upReason 152 = .ok (.if_icmp .ne 59, 3) := dk_160 0 59 (dk_at dksX4_upReason_6 9 rfl rfl)
theorem dX4_upReason_155 : decode cX4_upReason 155 = .ok (.aload_n 0, 1) := dk_42 (dk_at dksX4_upReason_6 12 rfl rfl)
theorem dX4_upReason_156 : decode cX4_upReason 156 = .ok (.getfield 9, 3) := dk_180 0 9 (dk_at dksX4_upReason_6 13 rfl rfl)
theorem dX4_upReason_159 : decode cX4_upReason 159 = .ok (.iload_n 3, 1) := dk_29 (dk_at dksX4_upReason_6 16 rfl rfl)
theorem dX4_upReason_160 : decode cX4_upReason 160 = .ok (.iconst 0, 1) := dk_3 (dk_at dksX4_upReason_6 17 rfl rfl)
theorem dX4_upReason_161 : decode cX4_upReason 161 = .ok (.iadd, 1) := dk_96 (dk_at dksX4_upReason_6 18 rfl rfl)
theorem dX4_upReason_162 : decode cX4_upReason 162 = .ok (.iaload, 1) := dk_46 (dk_at dksX4_upReason_6 19 rfl rfl)
theorem dX4_upReason_163 : decode cX4_upReason 163 = .ok (.bipush 25, 2) := dk_16 25 (dk_at dksX4_upReason_6 20 rfl rfl)
theorem dX4_upReason_165 : decode cX4_upReason 165 = .ok (.if_icmp .lt 20, 3) := dk_161 0 20 (dk_at dksX4_upReason_7 0 rfl rfl)
theorem dX4_upReason_168 : decode cX4_upReason 168 = .ok (.aload_n 0, 1) := dk_42 (dk_at dksX4_upReason_7 3 rfl rfl)
theorem dX4_upReason_169 : decode cX4_upReason 169 = .ok (.getfield 9, 3) := dk_180 0 9 (dk_at dksX4_upReason_7 4 rfl rfl)
theorem dX4_upReason_172 : decode cX4_upReason 172 = .ok (.iload 4, 2) := dk_21 4 (dk_at dksX4_upReason_7 7 rfl rfl)
theorem dX4_upReason_174 : decode cX4_upReason 174 = .ok (.invokestatic 91, 3) := dk_184 0 91 (dk_at dksX4_upReason_7 9 rfl rfl)
theorem dX4_upReason_177 : decode cX4_upReason 177 = .ok (.iconst 0, 1) := dk_3 (dk_at dksX4_upReason_7 12 rfl rfl)
theorem dX4_upReason_178 : decode cX4_upReason 178 = .ok (.iadd, 1) := dk_96 (dk_at dksX4_upReason_7 13 rfl rfl)
theorem dX4_upReason_179 : decode cX4_upReason 179 = .ok (.iaload, 1) := dk_46 (dk_at dksX4_upReason_7 14 rfl rfl)
theorem dX4_upReason_180 : decode cX4_upReason 180 = .ok (.bipush 25, 2) := dk_16 25 (dk_at dksX4_upReason_7 15 rfl rfl)
theorem dX4_upReason_182 : decode cX4_upReason 182 = .ok (.if_icmp .ge 29, 3) := dk_162 0 29 (dk_at dksX4_upReason_7 17 rfl rfl)
theorem dX4_upReason_185 : decode cX4_upReason 185 = .ok (.aload_n 0, 1) := dk_42 (dk_at dksX4_upReason_7 20 rfl rfl)
theorem dX4_upReason_186 : decode cX4_upReason 186 = .ok (.aload_n 0, 1) := dk_42 (dk_at dksX4_upReason_7 21 rfl rfl)
theorem dX4_upReason_187 : decode cX4_upReason 187 = .ok (.getfield 9, 3) := dk_180 0 9 (dk_at dksX4_upReason_8 0 rfl rfl)
theorem dX4_upReason_190 : decode cX4_upReason 190 = .ok (.iload_n 3, 1) := dk_29 (dk_at dksX4_upReason_8 3 rfl rfl)
theorem dX4_upReason_191 : decode cX4_upReason 191 = .ok (.iconst 0, 1) := dk_3 (dk_at dksX4_upReason_8 4 rfl rfl)
theorem dX4_upReason_192 : decode cX4_upReason 192 = .ok (.iadd, 1) := dk_96 (dk_at dksX4_upReason_8 5 rfl rfl)
theorem dX4_upReason_193 : decode cX4_upReason 193 = .ok (.iaload, 1) := dk_46 (dk_at dksX4_upReason_8 6 rfl rfl)
theorem dX4_upReason_194 : decode cX4_upReason 194 = .ok (.bipush 25, 2) := dk_16 25 (dk_at dksX4_upReason_8 7 rfl rfl)
theorem dX4_upReason_196 : decode cX4_upReason 196 = .ok (.if_icmp .ge 7, 3) := dk_162 0 7 (dk_at dksX4_upReason_8 9 rfl rfl)
theorem dX4_upReason_199 : decode cX4_upReason 199 = .ok (.iload_n 1, 1) := dk_27 (dk_at dksX4_upReason_8 12 rfl rfl)
theorem dX4_upReason_200 : decode cX4_upReason 200 = .ok (.goto 5, 3) := dk_167 0 5 (dk_at dksX4_upReason_8 13 rfl rfl)
theorem dX4_upReason_203 : decode cX4_upReason 203 = .ok (.iload 4, 2) := dk_21 4 (dk_at dksX4_upReason_8 16 rfl rfl)
theorem dX4_upReason_205 : decode cX4_upReason 205 = .ok (.putfield 134, 3) := dk_181 0 134 (dk_at dksX4_upReason_8 18 rfl rfl)
theorem dX4_upReason_208 : decode cX4_upReason 208 = .ok (.bipush 7, 2) := dk_16 7 (dk_at dksX4_upReason_8 21 rfl rfl)
theorem dX4_upReason_210 : decode cX4_upReason 210 = .ok (.ireturn, 1) := dk_172 (dk_at dksX4_upReason_8 23 rfl rfl)
theorem dX4_upReason_211 : decode cX4_upReason 211 = .ok (.iconst 0, 1) := dk_3 (dk_at dksX4_upReason_9 0 rfl rfl)
theorem dX4_upReason_212 : decode cX4_upReason 212 = .ok (.ireturn, 1) := dk_172 (dk_at dksX4_upReason_9 1 rfl rfl)
abbrev cX4_refuseBy : ByteArray := prog_17_method_6_code
def yX4_refuseBy : MethodName := ⟨RX4, "refuseBy", "(IIIII)I"⟩
def dkwX4_refuseBy_1 : List UInt8 := [42, 5, 181, 0, 57, 3, 172]
abbrev dktX4_refuseBy_1 : List UInt8 := dkwX4_refuseBy_1 ++ []
def dkwX4_refuseBy_0 : List UInt8 := [42, 27, 28, 29, 182, 0, 64, 87, 42, 180, 0, 25, 4, 21, 4, 79, 42, 180, 0, 28, 4, 21, 5, 79]
abbrev dktX4_refuseBy_0 : List UInt8 := dkwX4_refuseBy_0 ++ dktX4_refuseBy_1
theorem dksX4_refuseBy_0 : cX4_refuseBy.data.toList.drop 0 = dktX4_refuseBy_0 := by decide +kernel
theorem dksX4_refuseBy_1 : cX4_refuseBy.data.toList.drop 24 = dktX4_refuseBy_1 := dk_seg dksX4_refuseBy_0 24 rfl rfl
theorem dX4_refuseBy_0 : decode cX4_refuseBy 0 = .ok (.aload_n 0, 1) := dk_42 (dk_at dksX4_refuseBy_0 0 rfl rfl)
theorem dX4_refuseBy_1 : decode cX4_refuseBy 1 = .ok (.iload_n 1, 1) := dk_27 (dk_at dksX4_refuseBy_0 1 rfl rfl)
theorem dX4_refuseBy_2 : decode cX4_refuseBy 2 = .ok (.iload_n 2, 1) := dk_28 (dk_at dksX4_refuseBy_0 2 rfl rfl)
theorem dX4_refuseBy_3 : decode cX4_refuseBy 3 = .ok (.iload_n 3, 1) := dk_29 (dk_at dksX4_refuseBy_0 3 rfl rfl)
theorem dX4_refuseBy_4 : decode cX4_refuseBy 4 = .ok (.invokevirtual 64, 3) := dk_182 0 64 (dk_at dksX4_refuseBy_0 4 rfl rfl)
theorem dX4_refuseBy_7 : decode cX4_refuseBy 7 = .ok (.pop, 1) := dk_87 (dk_at dksX4_refuseBy_0 7 rfl rfl)
theorem dX4_refuseBy_8 : decode cX4_refuseBy 8 = .ok (.aload_n 0, 1) := dk_42 (dk_at dksX4_refuseBy_0 8 rfl rfl)
theorem dX4_refuseBy_9 : decode cX4_refuseBy 9 = .ok (.getfield 25, 3) := dk_180 0 25 (dk_at dksX4_refuseBy_0 9 rfl rfl)
theorem dX4_refuseBy_12 : decode cX4_refuseBy 12 = .ok (.iconst 1, 1) := dk_4 (dk_at dksX4_refuseBy_0 12 rfl rfl)
theorem dX4_refuseBy_13 : decode cX4_refuseBy 13 = .ok (.iload 4, 2) := dk_21 4 (dk_at dksX4_refuseBy_0 13 rfl rfl)
theorem dX4_refuseBy_15 : decode cX4_refuseBy 15 = .ok (.iastore, 1) := dk_79 (dk_at dksX4_refuseBy_0 15 rfl rfl)
theorem dX4_refuseBy_16 : decode cX4_refuseBy 16 = .ok (.aload_n 0, 1) := dk_42 (dk_at dksX4_refuseBy_0 16 rfl rfl)
theorem dX4_refuseBy_17 : decode cX4_refuseBy 17 = .ok (.getfield 28, 3) := dk_180 0 28 (dk_at dksX4_refuseBy_0 17 rfl rfl)
theorem dX4_refuseBy_20 : decode cX4_refuseBy 20 = .ok (.iconst 1, 1) := dk_4 (dk_at dksX4_refuseBy_0 20 rfl rfl)
theorem dX4_refuseBy_21 : decode cX4_refuseBy 21 = .ok (.iload 5, 2) := dk_21 5 (dk_at dksX4_refuseBy_0 21 rfl rfl)
theorem dX4_refuseBy_23 : decode cX4_refuseBy 23 = .ok (.iastore, 1) := dk_79 (dk_at dksX4_refuseBy_0 23 rfl rfl)
theorem dX4_refuseBy_24 : decode cX4_refuseBy 24 = .ok (.aload_n 0, 1) := dk_42 (dk_at dksX4_refuseBy_1 0 rfl rfl)
theorem dX4_refuseBy_25 : decode cX4_refuseBy 25 = .ok (.iconst 2, 1) := dk_5 (dk_at dksX4_refuseBy_1 1 rfl rfl)
theorem dX4_refuseBy_26 : decode cX4_refuseBy 26 = .ok (.putfield 57, 3) := dk_181 0 57 (dk_at dksX4_refuseBy_1 2 rfl rfl)
theorem dX4_refuseBy_29 : decode cX4_refuseBy 29 = .ok (.iconst 0, 1) := dk_3 (dk_at dksX4_refuseBy_1 5 rfl rfl)
theorem dX4_refuseBy_30 : decode cX4_refuseBy 30 = .ok (.ireturn, 1) := dk_172 (dk_at dksX4_refuseBy_1 6 rfl rfl)
abbrev cX4_down : ByteArray := prog_17_method_39_code
def yX4_down : MethodName := ⟨RX4, "down", "(I)I"⟩
def dkwX4_down_0 : List UInt8 := [42, 182, 0, 79, 42, 42, 27, 182, 0, 150, 182, 0, 85, 172]
abbrev dktX4_down_0 : List UInt8 := dkwX4_down_0 ++ []
theorem dksX4_down_0 : cX4_down.data.toList.drop 0 = dktX4_down_0 := by decide +kernel
theorem dX4_down_0 : decode cX4_down 0 = .ok (.aload_n 0, 1) := dk_42 (dk_at dksX4_down_0 0 rfl rfl)
theorem dX4_down_1 : decode cX4_down 1 = .ok (.invokevirtual 79, 3) := dk_182 0 79 (dk_at dksX4_down_0 1 rfl rfl)
theorem dX4_down_4 : decode cX4_down 4 = .ok (.aload_n 0, 1) := dk_42 (dk_at dksX4_down_0 4 rfl rfl)
theorem dX4_down_5 : decode cX4_down 5 = .ok (.aload_n 0, 1) := dk_42 (dk_at dksX4_down_0 5 rfl rfl)
theorem dX4_down_6 : decode cX4_down 6 = .ok (.iload_n 1, 1) := dk_27 (dk_at dksX4_down_0 6 rfl rfl)
theorem dX4_down_7 : decode cX4_down 7 = .ok (.invokevirtual 150, 3) := dk_182 0 150 (dk_at dksX4_down_0 7 rfl rfl)
theorem dX4_down_10 : decode cX4_down 10 = .ok (.invokevirtual 85, 3) := dk_182 0 85 (dk_at dksX4_down_0 10 rfl rfl)
theorem dX4_down_13 : decode cX4_down 13 = .ok (.ireturn, 1) := dk_172 (dk_at dksX4_down_0 13 rfl rfl)
abbrev cX4_downIt : ByteArray := prog_17_method_38_code
def yX4_downIt : MethodName := ⟨RX4, "downIt", "(I)I"⟩
def dkwX4_downIt_3 : List UInt8 := [2, 79, 29, 172]
abbrev dktX4_downIt_3 : List UInt8 := dkwX4_downIt_3 ++ []
def dkwX4_downIt_2 : List UInt8 := [180, 0, 9, 28, 6, 96, 46, 62, 42, 180, 0, 9, 28, 5, 96, 3, 79, 42, 180, 0, 9, 28, 6, 96]
abbrev dktX4_downIt_2 : List UInt8 := dkwX4_downIt_2 ++ dktX4_downIt_3
def dkwX4_downIt_1 : List UInt8 := [5, 96, 46, 4, 159, 0, 18, 42, 5, 5, 42, 180, 0, 9, 28, 5, 96, 46, 182, 0, 64, 172, 42]
abbrev dktX4_downIt_1 : List UInt8 := dkwX4_downIt_1 ++ dktX4_downIt_2
def dkwX4_downIt_0 : List UInt8 := [42, 27, 182, 0, 137, 154, 0, 9, 42, 4, 182, 0, 60, 172, 27, 184, 0, 91, 61, 42, 180, 0, 9, 28]
abbrev dktX4_downIt_0 : List UInt8 := dkwX4_downIt_0 ++ dktX4_downIt_1
theorem dksX4_downIt_0 : cX4_downIt.data.toList.drop 0 = dktX4_downIt_0 := by decide +kernel
theorem dksX4_downIt_1 : cX4_downIt.data.toList.drop 24 = dktX4_downIt_1 := dk_seg dksX4_downIt_0 24 rfl rfl
theorem dksX4_downIt_2 : cX4_downIt.data.toList.drop 47 = dktX4_downIt_2 := dk_seg dksX4_downIt_1 23 rfl rfl
theorem dksX4_downIt_3 : cX4_downIt.data.toList.drop 71 = dktX4_downIt_3 := dk_seg dksX4_downIt_2 24 rfl rfl
theorem dX4_downIt_0 : decode cX4_downIt 0 = .ok (.aload_n 0, 1) := dk_42 (dk_at dksX4_downIt_0 0 rfl rfl)
theorem dX4_downIt_1 : decode cX4_downIt 1 = .ok (.iload_n 1, 1) := dk_27 (dk_at dksX4_downIt_0 1 rfl rfl)
theorem dX4_downIt_2 : decode cX4_downIt 2 = .ok (.invokevirtual 137, 3) := dk_182 0 137 (dk_at dksX4_downIt_0 2 rfl rfl)
theorem dX4_downIt_5 : decode cX4_downIt 5 = .ok (.ifCond .ne 9, 3) := dk_154 0 9 (dk_at dksX4_downIt_0 5 rfl rfl)
theorem dX4_downIt_8 : decode cX4_downIt 8 = .ok (.aload_n 0, 1) := dk_42 (dk_at dksX4_downIt_0 8 rfl rfl)
theorem dX4_downIt_9 : decode cX4_downIt 9 = .ok (.iconst 1, 1) := dk_4 (dk_at dksX4_downIt_0 9 rfl rfl)
theorem dX4_downIt_10 : decode cX4_downIt 10 = .ok (.invokevirtual 60, 3) := dk_182 0 60 (dk_at dksX4_downIt_0 10 rfl rfl)
theorem dX4_downIt_13 : decode cX4_downIt 13 = .ok (.ireturn, 1) := dk_172 (dk_at dksX4_downIt_0 13 rfl rfl)
theorem dX4_downIt_14 : decode cX4_downIt 14 = .ok (.iload_n 1, 1) := dk_27 (dk_at dksX4_downIt_0 14 rfl rfl)
theorem dX4_downIt_15 : decode cX4_downIt 15 = .ok (.invokestatic 91, 3) := dk_184 0 91 (dk_at dksX4_downIt_0 15 rfl rfl)
theorem dX4_downIt_18 : decode cX4_downIt 18 = .ok (.istore_n 2, 1) := dk_61 (dk_at dksX4_downIt_0 18 rfl rfl)
theorem dX4_downIt_19 : decode cX4_downIt 19 = .ok (.aload_n 0, 1) := dk_42 (dk_at dksX4_downIt_0 19 rfl rfl)
theorem dX4_downIt_20 : decode cX4_downIt 20 = .ok (.getfield 9, 3) := dk_180 0 9 (dk_at dksX4_downIt_0 20 rfl rfl)
theorem dX4_downIt_23 : decode cX4_downIt 23 = .ok (.iload_n 2, 1) := dk_28 (dk_at dksX4_downIt_0 23 rfl rfl)
theorem dX4_downIt_24 : decode cX4_downIt 24 = .ok (.iconst 2, 1) := dk_5 (dk_at dksX4_downIt_1 0 rfl rfl)
theorem dX4_downIt_25 : decode cX4_downIt 25 = .ok (.iadd, 1) := dk_96 (dk_at dksX4_downIt_1 1 rfl rfl)
theorem dX4_downIt_26 : decode cX4_downIt 26 = .ok (.iaload, 1) := dk_46 (dk_at dksX4_downIt_1 2 rfl rfl)
theorem dX4_downIt_27 : decode cX4_downIt 27 = .ok (.iconst 1, 1) := dk_4 (dk_at dksX4_downIt_1 3 rfl rfl)
theorem dX4_downIt_28 : decode cX4_downIt 28 = .ok (.if_icmp .eq 18, 3) := dk_159 0 18 (dk_at dksX4_downIt_1 4 rfl rfl)
theorem dX4_downIt_31 : decode cX4_downIt 31 = .ok (.aload_n 0, 1) := dk_42 (dk_at dksX4_downIt_1 7 rfl rfl)
theorem dX4_downIt_32 : decode cX4_downIt 32 = .ok (.iconst 2, 1) := dk_5 (dk_at dksX4_downIt_1 8 rfl rfl)
theorem dX4_downIt_33 : decode cX4_downIt 33 = .ok (.iconst 2, 1) := dk_5 (dk_at dksX4_downIt_1 9 rfl rfl)
theorem dX4_downIt_34 : decode cX4_downIt 34 = .ok (.aload_n 0, 1) := dk_42 (dk_at dksX4_downIt_1 10 rfl rfl)
theorem dX4_downIt_35 : decode cX4_downIt 35 = .ok (.getfield 9, 3) := dk_180 0 9 (dk_at dksX4_downIt_1 11 rfl rfl)
theorem dX4_downIt_38 : decode cX4_downIt 38 = .ok (.iload_n 2, 1) := dk_28 (dk_at dksX4_downIt_1 14 rfl rfl)
theorem dX4_downIt_39 : decode cX4_downIt 39 = .ok (.iconst 2, 1) := dk_5 (dk_at dksX4_downIt_1 15 rfl rfl)
theorem dX4_downIt_40 : decode cX4_downIt 40 = .ok (.iadd, 1) := dk_96 (dk_at dksX4_downIt_1 16 rfl rfl)
theorem dX4_downIt_41 : decode cX4_downIt 41 = .ok (.iaload, 1) := dk_46 (dk_at dksX4_downIt_1 17 rfl rfl)
theorem dX4_downIt_42 : decode cX4_downIt 42 = .ok (.invokevirtual 64, 3) := dk_182 0 64 (dk_at dksX4_downIt_1 18 rfl rfl)
theorem dX4_downIt_45 : decode cX4_downIt 45 = .ok (.ireturn, 1) := dk_172 (dk_at dksX4_downIt_1 21 rfl rfl)
theorem dX4_downIt_46 : decode cX4_downIt 46 = .ok (.aload_n 0, 1) := dk_42 (dk_at dksX4_downIt_1 22 rfl rfl)
theorem dX4_downIt_47 : decode cX4_downIt 47 = .ok (.getfield 9, 3) := dk_180 0 9 (dk_at dksX4_downIt_2 0 rfl rfl)
theorem dX4_downIt_50 : decode cX4_downIt 50 = .ok (.iload_n 2, 1) := dk_28 (dk_at dksX4_downIt_2 3 rfl rfl)
theorem dX4_downIt_51 : decode cX4_downIt 51 = .ok (.iconst 3, 1) := dk_6 (dk_at dksX4_downIt_2 4 rfl rfl)
theorem dX4_downIt_52 : decode cX4_downIt 52 = .ok (.iadd, 1) := dk_96 (dk_at dksX4_downIt_2 5 rfl rfl)
theorem dX4_downIt_53 : decode cX4_downIt 53 = .ok (.iaload, 1) := dk_46 (dk_at dksX4_downIt_2 6 rfl rfl)
theorem dX4_downIt_54 : decode cX4_downIt 54 = .ok (.istore_n 3, 1) := dk_62 (dk_at dksX4_downIt_2 7 rfl rfl)
theorem dX4_downIt_55 : decode cX4_downIt 55 = .ok (.aload_n 0, 1) := dk_42 (dk_at dksX4_downIt_2 8 rfl rfl)
theorem dX4_downIt_56 : decode cX4_downIt 56 = .ok (.getfield 9, 3) := dk_180 0 9 (dk_at dksX4_downIt_2 9 rfl rfl)
theorem dX4_downIt_59 : decode cX4_downIt 59 = .ok (.iload_n 2, 1) := dk_28 (dk_at dksX4_downIt_2 12 rfl rfl)
theorem dX4_downIt_60 : decode cX4_downIt 60 = .ok (.iconst 2, 1) := dk_5 (dk_at dksX4_downIt_2 13 rfl rfl)
theorem dX4_downIt_61 : decode cX4_downIt 61 = .ok (.iadd, 1) := dk_96 (dk_at dksX4_downIt_2 14 rfl rfl)
theorem dX4_downIt_62 : decode cX4_downIt 62 = .ok (.iconst 0, 1) := dk_3 (dk_at dksX4_downIt_2 15 rfl rfl)
theorem dX4_downIt_63 : decode cX4_downIt 63 = .ok (.iastore, 1) := dk_79 (dk_at dksX4_downIt_2 16 rfl rfl)
theorem dX4_downIt_64 : decode cX4_downIt 64 = .ok (.aload_n 0, 1) := dk_42 (dk_at dksX4_downIt_2 17 rfl rfl)
theorem dX4_downIt_65 : decode cX4_downIt 65 = .ok (.getfield 9, 3) := dk_180 0 9 (dk_at dksX4_downIt_2 18 rfl rfl)
theorem dX4_downIt_68 : decode cX4_downIt 68 = .ok (.iload_n 2, 1) := dk_28 (dk_at dksX4_downIt_2 21 rfl rfl)
theorem dX4_downIt_69 : decode cX4_downIt 69 = .ok (.iconst 3, 1) := dk_6 (dk_at dksX4_downIt_2 22 rfl rfl)
theorem dX4_downIt_70 : decode cX4_downIt 70 = .ok (.iadd, 1) := dk_96 (dk_at dksX4_downIt_2 23 rfl rfl)
theorem dX4_downIt_71 : decode cX4_downIt 71 = .ok (.iconst (-1), 1) := dk_2 (dk_at dksX4_downIt_3 0 rfl rfl)
theorem dX4_downIt_72 : decode cX4_downIt 72 = .ok (.iastore, 1) := dk_79 (dk_at dksX4_downIt_3 1 rfl rfl)
theorem dX4_downIt_73 : decode cX4_downIt 73 = .ok (.iload_n 3, 1) := dk_29 (dk_at dksX4_downIt_3 2 rfl rfl)
theorem dX4_downIt_74 : decode cX4_downIt 74 = .ok (.ireturn, 1) := dk_172 (dk_at dksX4_downIt_3 3 rfl rfl)
abbrev cX4_leave : ByteArray := prog_17_method_41_code
def yX4_leave : MethodName := ⟨RX4, "leave", "(I)I"⟩
def dkwX4_leave_3 : List UInt8 := [5, 182, 0, 153, 100, 182, 0, 85, 172]
abbrev dktX4_leave_3 : List UInt8 := dkwX4_leave_3 ++ []
def dkwX4_leave_2 : List UInt8 := [182, 0, 64, 172, 42, 180, 0, 9, 27, 184, 0, 91, 5, 96, 5, 79, 42, 42, 180, 0, 9, 5, 46, 42]
abbrev dktX4_leave_2 : List UInt8 := dkwX4_leave_2 ++ dktX4_leave_3
def dkwX4_leave_1 : List UInt8 := [184, 0, 91, 5, 96, 46, 153, 0, 21, 42, 5, 5, 42, 180, 0, 9, 27, 184, 0, 91, 5, 96, 46]
abbrev dktX4_leave_1 : List UInt8 := dkwX4_leave_1 ++ dktX4_leave_2
def dkwX4_leave_0 : List UInt8 := [42, 182, 0, 79, 42, 27, 182, 0, 137, 154, 0, 9, 42, 4, 182, 0, 60, 172, 42, 180, 0, 9, 27]
abbrev dktX4_leave_0 : List UInt8 := dkwX4_leave_0 ++ dktX4_leave_1
theorem dksX4_leave_0 : cX4_leave.data.toList.drop 0 = dktX4_leave_0 := by decide +kernel
theorem dksX4_leave_1 : cX4_leave.data.toList.drop 23 = dktX4_leave_1 := dk_seg dksX4_leave_0 23 rfl rfl
theorem dksX4_leave_2 : cX4_leave.data.toList.drop 46 = dktX4_leave_2 := dk_seg dksX4_leave_1 23 rfl rfl
theorem dksX4_leave_3 : cX4_leave.data.toList.drop 70 = dktX4_leave_3 := dk_seg dksX4_leave_2 24 rfl rfl
theorem dX4_leave_0 : decode cX4_leave 0 = .ok (.aload_n 0, 1) := dk_42 (dk_at dksX4_leave_0 0 rfl rfl)
theorem dX4_leave_1 : decode cX4_leave 1 = .ok (.invokevirtual 79, 3) := dk_182 0 79 (dk_at dksX4_leave_0 1 rfl rfl)
theorem dX4_leave_4 : decode cX4_leave 4 = .ok (.aload_n 0, 1) := dk_42 (dk_at dksX4_leave_0 4 rfl rfl)
theorem dX4_leave_5 : decode cX4_leave 5 = .ok (.iload_n 1, 1) := dk_27 (dk_at dksX4_leave_0 5 rfl rfl)
theorem dX4_leave_6 : decode cX4_leave 6 = .ok (.invokevirtual 137, 3) := dk_182 0 137 (dk_at dksX4_leave_0 6 rfl rfl)
theorem dX4_leave_9 : decode cX4_leave 9 = .ok (.ifCond .ne 9, 3) := dk_154 0 9 (dk_at dksX4_leave_0 9 rfl rfl)
theorem dX4_leave_12 : decode cX4_leave 12 = .ok (.aload_n 0, 1) := dk_42 (dk_at dksX4_leave_0 12 rfl rfl)
theorem dX4_leave_13 : decode cX4_leave 13 = .ok (.iconst 1, 1) := dk_4 (dk_at dksX4_leave_0 13 rfl rfl)
theorem dX4_leave_14 : decode cX4_leave 14 = .ok (.invokevirtual 60, 3) := dk_182 0 60 (dk_at dksX4_leave_0 14 rfl rfl)
theorem dX4_leave_17 : decode cX4_leave 17 = .ok (.ireturn, 1) := dk_172 (dk_at dksX4_leave_0 17 rfl rfl)
theorem dX4_leave_18 : decode cX4_leave 18 = .ok (.aload_n 0, 1) := dk_42 (dk_at dksX4_leave_0 18 rfl rfl)
theorem dX4_leave_19 : decode cX4_leave 19 = .ok (.getfield 9, 3) := dk_180 0 9 (dk_at dksX4_leave_0 19 rfl rfl)
theorem dX4_leave_22 : decode cX4_leave 22 = .ok (.iload_n 1, 1) := dk_27 (dk_at dksX4_leave_0 22 rfl rfl)
theorem dX4_leave_23 : decode cX4_leave 23 = .ok (.invokestatic 91, 3) := dk_184 0 91 (dk_at dksX4_leave_1 0 rfl rfl)
theorem dX4_leave_26 : decode cX4_leave 26 = .ok (.iconst 2, 1) := dk_5 (dk_at dksX4_leave_1 3 rfl rfl)
theorem dX4_leave_27 : decode cX4_leave 27 = .ok (.iadd, 1) := dk_96 (dk_at dksX4_leave_1 4 rfl rfl)
theorem dX4_leave_28 : decode cX4_leave 28 = .ok (.iaload, 1) := dk_46 (dk_at dksX4_leave_1 5 rfl rfl)
theorem dX4_leave_29 : decode cX4_leave 29 = .ok (.ifCond .eq 21, 3) := dk_153 0 21 (dk_at dksX4_leave_1 6 rfl rfl)
theorem dX4_leave_32 : decode cX4_leave 32 = .ok (.aload_n 0, 1) := dk_42 (dk_at dksX4_leave_1 9 rfl rfl)
theorem dX4_leave_33 : decode cX4_leave 33 = .ok (.iconst 2, 1) := dk_5 (dk_at dksX4_leave_1 10 rfl rfl)
theorem dX4_leave_34 : decode cX4_leave 34 = .ok (.iconst 2, 1) := dk_5 (dk_at dksX4_leave_1 11 rfl rfl)
theorem dX4_leave_35 : decode cX4_leave 35 = .ok (.aload_n 0, 1) := dk_42 (dk_at dksX4_leave_1 12 rfl rfl)
theorem dX4_leave_36 : decode cX4_leave 36 = .ok (.getfield 9, 3) := dk_180 0 9 (dk_at dksX4_leave_1 13 rfl rfl)
theorem dX4_leave_39 : decode cX4_leave 39 = .ok (.iload_n 1, 1) := dk_27 (dk_at dksX4_leave_1 16 rfl rfl)
theorem dX4_leave_40 : decode cX4_leave 40 = .ok (.invokestatic 91, 3) := dk_184 0 91 (dk_at dksX4_leave_1 17 rfl rfl)
theorem dX4_leave_43 : decode cX4_leave 43 = .ok (.iconst 2, 1) := dk_5 (dk_at dksX4_leave_1 20 rfl rfl)
theorem dX4_leave_44 : decode cX4_leave 44 = .ok (.iadd, 1) := dk_96 (dk_at dksX4_leave_1 21 rfl rfl)
theorem dX4_leave_45 : decode cX4_leave 45 = .ok (.iaload, 1) := dk_46 (dk_at dksX4_leave_1 22 rfl rfl)
theorem dX4_leave_46 : decode cX4_leave 46 = .ok (.invokevirtual 64, 3) := dk_182 0 64 (dk_at dksX4_leave_2 0 rfl rfl)
theorem dX4_leave_49 : decode cX4_leave 49 = .ok (.ireturn, 1) := dk_172 (dk_at dksX4_leave_2 3 rfl rfl)
theorem dX4_leave_50 : decode cX4_leave 50 = .ok (.aload_n 0, 1) := dk_42 (dk_at dksX4_leave_2 4 rfl rfl)
theorem dX4_leave_51 : decode cX4_leave 51 = .ok (.getfield 9, 3) := dk_180 0 9 (dk_at dksX4_leave_2 5 rfl rfl)
theorem dX4_leave_54 : decode cX4_leave 54 = .ok (.iload_n 1, 1) := dk_27 (dk_at dksX4_leave_2 8 rfl rfl)
theorem dX4_leave_55 : decode cX4_leave 55 = .ok (.invokestatic 91, 3) := dk_184 0 91 (dk_at dksX4_leave_2 9 rfl rfl)
theorem dX4_leave_58 : decode cX4_leave 58 = .ok (.iconst 2, 1) := dk_5 (dk_at dksX4_leave_2 12 rfl rfl)
theorem dX4_leave_59 : decode cX4_leave 59 = .ok (.iadd, 1) := dk_96 (dk_at dksX4_leave_2 13 rfl rfl)
theorem dX4_leave_60 : decode cX4_leave 60 = .ok (.iconst 2, 1) := dk_5 (dk_at dksX4_leave_2 14 rfl rfl)
theorem dX4_leave_61 : decode cX4_leave 61 = .ok (.iastore, 1) := dk_79 (dk_at dksX4_leave_2 15 rfl rfl)
theorem dX4_leave_62 : decode cX4_leave 62 = .ok (.aload_n 0, 1) := dk_42 (dk_at dksX4_leave_2 16 rfl rfl)
theorem dX4_leave_63 : decode cX4_leave 63 = .ok (.aload_n 0, 1) := dk_42 (dk_at dksX4_leave_2 17 rfl rfl)
theorem dX4_leave_64 : decode cX4_leave 64 = .ok (.getfield 9, 3) := dk_180 0 9 (dk_at dksX4_leave_2 18 rfl rfl)
theorem dX4_leave_67 : decode cX4_leave 67 = .ok (.iconst 2, 1) := dk_5 (dk_at dksX4_leave_2 21 rfl rfl)
theorem dX4_leave_68 : decode cX4_leave 68 = .ok (.iaload, 1) := dk_46 (dk_at dksX4_leave_2 22 rfl rfl)
theorem dX4_leave_69 : decode cX4_leave 69 = .ok (.aload_n 0, 1) := dk_42 (dk_at dksX4_leave_2 23 rfl rfl)
theorem dX4_leave_70 : decode cX4_leave 70 = .ok (.iconst 2, 1) := dk_5 (dk_at dksX4_leave_3 0 rfl rfl)
theorem dX4_leave_71 : decode cX4_leave 71 = .ok (.invokevirtual 153, 3) := dk_182 0 153 (dk_at dksX4_leave_3 1 rfl rfl)
theorem dX4_leave_74 : decode cX4_leave 74 = .ok (.isub, 1) := dk_100 (dk_at dksX4_leave_3 4 rfl rfl)
theorem dX4_leave_75 : decode cX4_leave 75 = .ok (.invokevirtual 85, 3) := dk_182 0 85 (dk_at dksX4_leave_3 5 rfl rfl)
theorem dX4_leave_78 : decode cX4_leave 78 = .ok (.ireturn, 1) := dk_172 (dk_at dksX4_leave_3 8 rfl rfl)
abbrev cX4_jumpersAt : ByteArray := prog_17_method_40_code
def yX4_jumpersAt : MethodName := ⟨RX4, "jumpersAt", "(I)I"⟩
def dkwX4_jumpersAt_1 : List UInt8 := [96, 46, 27, 160, 0, 7, 4, 167, 0, 4, 3, 96, 61, 132, 3, 1, 167, 255, 220, 28, 172]
abbrev dktX4_jumpersAt_1 : List UInt8 := dkwX4_jumpersAt_1 ++ []
def dkwX4_jumpersAt_0 : List UInt8 := [3, 61, 3, 62, 29, 42, 180, 0, 9, 5, 46, 162, 0, 32, 28, 42, 180, 0, 9, 29, 184, 0, 91, 5]
abbrev dktX4_jumpersAt_0 : List UInt8 := dkwX4_jumpersAt_0 ++ dktX4_jumpersAt_1
theorem dksX4_jumpersAt_0 : cX4_jumpersAt.data.toList.drop 0 = dktX4_jumpersAt_0 := by decide +kernel
theorem dksX4_jumpersAt_1 : cX4_jumpersAt.data.toList.drop 24 = dktX4_jumpersAt_1 := dk_seg dksX4_jumpersAt_0 24 rfl rfl
theorem dX4_jumpersAt_0 : decode cX4_jumpersAt 0 = .ok (.iconst 0, 1) := dk_3 (dk_at dksX4_jumpersAt_0 0 rfl rfl)
theorem dX4_jumpersAt_1 : decode cX4_jumpersAt 1 = .ok (.istore_n 2, 1) := dk_61 (dk_at dksX4_jumpersAt_0 1 rfl rfl)
theorem dX4_jumpersAt_2 : decode cX4_jumpersAt 2 = .ok (.iconst 0, 1) := dk_3 (dk_at dksX4_jumpersAt_0 2 rfl rfl)
theorem dX4_jumpersAt_3 : decode cX4_jumpersAt 3 = .ok (.istore_n 3, 1) := dk_62 (dk_at dksX4_jumpersAt_0 3 rfl rfl)
theorem dX4_jumpersAt_4 : decode cX4_jumpersAt 4 = .ok (.iload_n 3, 1) := dk_29 (dk_at dksX4_jumpersAt_0 4 rfl rfl)
theorem dX4_jumpersAt_5 : decode cX4_jumpersAt 5 = .ok (.aload_n 0, 1) := dk_42 (dk_at dksX4_jumpersAt_0 5 rfl rfl)
theorem dX4_jumpersAt_6 : decode cX4_jumpersAt 6 = .ok (.getfield 9, 3) := dk_180 0 9 (dk_at dksX4_jumpersAt_0 6 rfl rfl)
theorem dX4_jumpersAt_9 : decode cX4_jumpersAt 9 = .ok (.iconst 2, 1) := dk_5 (dk_at dksX4_jumpersAt_0 9 rfl rfl)
theorem dX4_jumpersAt_10 : decode cX4_jumpersAt 10 = .ok (.iaload, 1) := dk_46 (dk_at dksX4_jumpersAt_0 10 rfl rfl)
theorem dX4_jumpersAt_11 : decode cX4_jumpersAt 11 = .ok (.if_icmp .ge 32, 3) := dk_162 0 32 (dk_at dksX4_jumpersAt_0 11 rfl rfl)
theorem dX4_jumpersAt_14 : decode cX4_jumpersAt 14 = .ok (.iload_n 2, 1) := dk_28 (dk_at dksX4_jumpersAt_0 14 rfl rfl)
theorem dX4_jumpersAt_15 : decode cX4_jumpersAt 15 = .ok (.aload_n 0, 1) := dk_42 (dk_at dksX4_jumpersAt_0 15 rfl rfl)
theorem dX4_jumpersAt_16 : decode cX4_jumpersAt 16 = .ok (.getfield 9, 3) := dk_180 0 9 (dk_at dksX4_jumpersAt_0 16 rfl rfl)
theorem dX4_jumpersAt_19 : decode cX4_jumpersAt 19 = .ok (.iload_n 3, 1) := dk_29 (dk_at dksX4_jumpersAt_0 19 rfl rfl)
theorem dX4_jumpersAt_20 : decode cX4_jumpersAt 20 = .ok (.invokestatic 91, 3) := dk_184 0 91 (dk_at dksX4_jumpersAt_0 20 rfl rfl)
theorem dX4_jumpersAt_23 : decode cX4_jumpersAt 23 = .ok (.iconst 2, 1) := dk_5 (dk_at dksX4_jumpersAt_0 23 rfl rfl)
theorem dX4_jumpersAt_24 : decode cX4_jumpersAt 24 = .ok (.iadd, 1) := dk_96 (dk_at dksX4_jumpersAt_1 0 rfl rfl)
theorem dX4_jumpersAt_25 : decode cX4_jumpersAt 25 = .ok (.iaload, 1) := dk_46 (dk_at dksX4_jumpersAt_1 1 rfl rfl)
theorem dX4_jumpersAt_26 : decode cX4_jumpersAt 26 = .ok (.iload_n 1, 1) := dk_27 (dk_at dksX4_jumpersAt_1 2 rfl rfl)
theorem dX4_jumpersAt_27 : decode cX4_jumpersAt 27 = .ok (.if_icmp .ne 7, 3) := dk_160 0 7 (dk_at dksX4_jumpersAt_1 3 rfl rfl)
theorem dX4_jumpersAt_30 : decode cX4_jumpersAt 30 = .ok (.iconst 1, 1) := dk_4 (dk_at dksX4_jumpersAt_1 6 rfl rfl)
theorem dX4_jumpersAt_31 : decode cX4_jumpersAt 31 = .ok (.goto 4, 3) := dk_167 0 4 (dk_at dksX4_jumpersAt_1 7 rfl rfl)
theorem dX4_jumpersAt_34 : decode cX4_jumpersAt 34 = .ok (.iconst 0, 1) := dk_3 (dk_at dksX4_jumpersAt_1 10 rfl rfl)
theorem dX4_jumpersAt_35 : decode cX4_jumpersAt 35 = .ok (.iadd, 1) := dk_96 (dk_at dksX4_jumpersAt_1 11 rfl rfl)
theorem dX4_jumpersAt_36 : decode cX4_jumpersAt 36 = .ok (.istore_n 2, 1) := dk_61 (dk_at dksX4_jumpersAt_1 12 rfl rfl)
theorem dX4_jumpersAt_37 : decode cX4_jumpersAt 37 = .ok (.iinc 3 1, 3) := dk_132 3 1 (dk_at dksX4_jumpersAt_1 13 rfl rfl)
theorem dX4_jumpersAt_40 : decode cX4_jumpersAt 40 = .ok (.goto (-36), 3) := dk_167 255 220 (dk_at dksX4_jumpersAt_1 16 rfl rfl)
theorem dX4_jumpersAt_43 : decode cX4_jumpersAt 43 = .ok (.iload_n 2, 1) := dk_28 (dk_at dksX4_jumpersAt_1 19 rfl rfl)
theorem dX4_jumpersAt_44 : decode cX4_jumpersAt 44 = .ok (.ireturn, 1) := dk_172 (dk_at dksX4_jumpersAt_1 20 rfl rfl)
abbrev cX4_stock : ByteArray := prog_17_method_42_code
def yX4_stock : MethodName := ⟨RX4, "stock", "(III)I"⟩
def dkwX4_stock_3 : List UInt8 := [182, 0, 85, 172]
abbrev dktX4_stock_3 : List UInt8 := dkwX4_stock_3 ++ []
def dkwX4_stock_2 : List UInt8 := [16, 99, 42, 180, 0, 9, 21, 4, 46, 29, 96, 184, 0, 159, 79, 42, 42, 180, 0, 9, 21, 4, 46]
abbrev dktX4_stock_2 : List UInt8 := dkwX4_stock_2 ++ dktX4_stock_3
def dkwX4_stock_1 : List UInt8 := [42, 4, 182, 0, 60, 172, 17, 0, 152, 6, 27, 104, 96, 28, 96, 54, 4, 42, 180, 0, 9, 21, 4]
abbrev dktX4_stock_1 : List UInt8 := dkwX4_stock_1 ++ dktX4_stock_2
def dkwX4_stock_0 : List UInt8 := [42, 182, 0, 79, 27, 28, 184, 0, 156, 153, 0, 15, 29, 133, 10, 20, 0, 129, 184, 0, 71, 154, 0, 9]
abbrev dktX4_stock_0 : List UInt8 := dkwX4_stock_0 ++ dktX4_stock_1
theorem dksX4_stock_0 : cX4_stock.data.toList.drop 0 = dktX4_stock_0 := by decide +kernel
theorem dksX4_stock_1 : cX4_stock.data.toList.drop 24 = dktX4_stock_1 := dk_seg dksX4_stock_0 24 rfl rfl
theorem dksX4_stock_2 : cX4_stock.data.toList.drop 47 = dktX4_stock_2 := dk_seg dksX4_stock_1 23 rfl rfl
theorem dksX4_stock_3 : cX4_stock.data.toList.drop 70 = dktX4_stock_3 := dk_seg dksX4_stock_2 23 rfl rfl
theorem dX4_stock_0 : decode cX4_stock 0 = .ok (.aload_n 0, 1) := dk_42 (dk_at dksX4_stock_0 0 rfl rfl)
theorem dX4_stock_1 : decode cX4_stock 1 = .ok (.invokevirtual 79, 3) := dk_182 0 79 (dk_at dksX4_stock_0 1 rfl rfl)
theorem dX4_stock_4 : decode cX4_stock 4 = .ok (.iload_n 1, 1) := dk_27 (dk_at dksX4_stock_0 4 rfl rfl)
theorem dX4_stock_5 : decode cX4_stock 5 = .ok (.iload_n 2, 1) := dk_28 (dk_at dksX4_stock_0 5 rfl rfl)
theorem dX4_stock_6 : decode cX4_stock 6 = .ok (.invokestatic 156, 3) := dk_184 0 156 (dk_at dksX4_stock_0 6 rfl rfl)
theorem dX4_stock_9 : decode cX4_stock 9 = .ok (.ifCond .eq 15, 3) := dk_153 0 15 (dk_at dksX4_stock_0 9 rfl rfl)
theorem dX4_stock_12 : decode cX4_stock 12 = .ok (.iload_n 3, 1) := dk_29 (dk_at dksX4_stock_0 12 rfl rfl)
theorem dX4_stock_13 : decode cX4_stock 13 = .ok (.i2l, 1) := dk_133 (dk_at dksX4_stock_0 13 rfl rfl)
theorem dX4_stock_14 : decode cX4_stock 14 = .ok (.lconst 1, 1) := dk_10 (dk_at dksX4_stock_0 14 rfl rfl)
theorem dX4_stock_15 : decode cX4_stock 15 = .ok (.ldc2_w 129, 3) := dk_20 0 129 (dk_at dksX4_stock_0 15 rfl rfl)
theorem dX4_stock_18 : decode cX4_stock 18 = .ok (.invokestatic 71, 3) := dk_184 0 71 (dk_at dksX4_stock_0 18 rfl rfl)
theorem dX4_stock_21 : decode cX4_stock 21 = .ok (.ifCond .ne 9, 3) := dk_154 0 9 (dk_at dksX4_stock_0 21 rfl rfl)
theorem dX4_stock_24 : decode cX4_stock 24 = .ok (.aload_n 0, 1) := dk_42 (dk_at dksX4_stock_1 0 rfl rfl)
theorem dX4_stock_25 : decode cX4_stock 25 = .ok (.iconst 1, 1) := dk_4 (dk_at dksX4_stock_1 1 rfl rfl)
theorem dX4_stock_26 : decode cX4_stock 26 = .ok (.invokevirtual 60, 3) := dk_182 0 60 (dk_at dksX4_stock_1 2 rfl rfl)
theorem dX4_stock_29 : decode cX4_stock 29 = .ok (.ireturn, 1) := dk_172 (dk_at dksX4_stock_1 5 rfl rfl)
theorem dX4_stock_30 : decode cX4_stock 30 = .ok (.sipush 152, 3) := dk_17 0 152 (dk_at dksX4_stock_1 6 rfl rfl)
theorem dX4_stock_33 : decode cX4_stock 33 = .ok (.iconst 3, 1) := dk_6 (dk_at dksX4_stock_1 9 rfl rfl)
theorem dX4_stock_34 : decode cX4_stock 34 = .ok (.iload_n 1, 1) := dk_27 (dk_at dksX4_stock_1 10 rfl rfl)
theorem dX4_stock_35 : decode cX4_stock 35 = .ok (.imul, 1) := dk_104 (dk_at dksX4_stock_1 11 rfl rfl)
theorem dX4_stock_36 : decode cX4_stock 36 = .ok (.iadd, 1) := dk_96 (dk_at dksX4_stock_1 12 rfl rfl)
theorem dX4_stock_37 : decode cX4_stock 37 = .ok (.iload_n 2, 1) := dk_28 (dk_at dksX4_stock_1 13 rfl rfl)
theorem dX4_stock_38 : decode cX4_stock 38 = .ok (.iadd, 1) := dk_96 (dk_at dksX4_stock_1 14 rfl rfl)
theorem dX4_stock_39 : decode cX4_stock 39 = .ok (.istore 4, 2) := dk_54 4 (dk_at dksX4_stock_1 15 rfl rfl)
theorem dX4_stock_41 : decode cX4_stock 41 = .ok (.aload_n 0, 1) := dk_42 (dk_at dksX4_stock_1 17 rfl rfl)
theorem dX4_stock_42 : decode cX4_stock 42 = .ok (.getfield 9, 3) := dk_180 0 9 (dk_at dksX4_stock_1 18 rfl rfl)
theorem dX4_stock_45 : decode cX4_stock 45 = .ok (.iload 4, 2) := dk_21 4 (dk_at dksX4_stock_1 21 rfl rfl)
theorem dX4_stock_47 : decode cX4_stock 47 = .ok (.bipush 99, 2) := dk_16 99 (dk_at dksX4_stock_2 0 rfl rfl)
theorem dX4_stock_49 : decode cX4_stock 49 = .ok (.aload_n 0, 1) := dk_42 (dk_at dksX4_stock_2 2 rfl rfl)
theorem dX4_stock_50 : decode cX4_stock 50 = .ok (.getfield 9, 3) := dk_180 0 9 (dk_at dksX4_stock_2 3 rfl rfl)
theorem dX4_stock_53 : decode cX4_stock 53 = .ok (.iload 4, 2) := dk_21 4 (dk_at dksX4_stock_2 6 rfl rfl)
theorem dX4_stock_55 : decode cX4_stock 55 = .ok (.iaload, 1) := dk_46 (dk_at dksX4_stock_2 8 rfl rfl)
theorem dX4_stock_56 : decode cX4_stock 56 = .ok (.iload_n 3, 1) := dk_29 (dk_at dksX4_stock_2 9 rfl rfl)
theorem dX4_stock_57 : decode cX4_stock 57 = .ok (.iadd, 1) := dk_96 (dk_at dksX4_stock_2 10 rfl rfl)
theorem dX4_stock_58 : decode cX4_stock 58 = .ok (.invokestatic 159, 3) := dk_184 0 159 (dk_at dksX4_stock_2 11 rfl rfl)
theorem dX4_stock_61 : decode cX4_stock 61 = .ok (.iastore, 1) := dk_79 (dk_at dksX4_stock_2 14 rfl rfl)
theorem dX4_stock_62 : decode cX4_stock 62 = .ok (.aload_n 0, 1) := dk_42 (dk_at dksX4_stock_2 15 rfl rfl)
theorem dX4_stock_63 : decode cX4_stock 63 = .ok (.aload_n 0, 1) := dk_42 (dk_at dksX4_stock_2 16 rfl rfl)
theorem dX4_stock_64 : decode cX4_stock 64 = .ok (.getfield 9, 3) := dk_180 0 9 (dk_at dksX4_stock_2 17 rfl rfl)
theorem dX4_stock_67 : decode cX4_stock 67 = .ok (.iload 4, 2) := dk_21 4 (dk_at dksX4_stock_2 20 rfl rfl)
theorem dX4_stock_69 : decode cX4_stock 69 = .ok (.iaload, 1) := dk_46 (dk_at dksX4_stock_2 22 rfl rfl)
theorem dX4_stock_70 : decode cX4_stock 70 = .ok (.invokevirtual 85, 3) := dk_182 0 85 (dk_at dksX4_stock_3 0 rfl rfl)
theorem dX4_stock_73 : decode cX4_stock 73 = .ok (.ireturn, 1) := dk_172 (dk_at dksX4_stock_3 3 rfl rfl)
abbrev cX4_isSock : ByteArray := prog_17_method_16_code
def yX4_isSock : MethodName := ⟨RX4, "isSock", "(II)Z"⟩
def dkwX4_isSock_1 : List UInt8 := [4, 167, 0, 4, 3, 172]
abbrev dktX4_isSock_1 : List UInt8 := dkwX4_isSock_1 ++ []
def dkwX4_isSock_0 : List UInt8 := [26, 133, 9, 20, 0, 75, 184, 0, 71, 153, 0, 19, 27, 133, 9, 20, 0, 77, 184, 0, 71, 153, 0, 7]
abbrev dktX4_isSock_0 : List UInt8 := dkwX4_isSock_0 ++ dktX4_isSock_1
theorem dksX4_isSock_0 : cX4_isSock.data.toList.drop 0 = dktX4_isSock_0 := by decide +kernel
theorem dksX4_isSock_1 : cX4_isSock.data.toList.drop 24 = dktX4_isSock_1 := dk_seg dksX4_isSock_0 24 rfl rfl
theorem dX4_isSock_0 : decode cX4_isSock 0 = .ok (.iload_n 0, 1) := dk_26 (dk_at dksX4_isSock_0 0 rfl rfl)
theorem dX4_isSock_1 : decode cX4_isSock 1 = .ok (.i2l, 1) := dk_133 (dk_at dksX4_isSock_0 1 rfl rfl)
theorem dX4_isSock_2 : decode cX4_isSock 2 = .ok (.lconst 0, 1) := dk_9 (dk_at dksX4_isSock_0 2 rfl rfl)
theorem dX4_isSock_3 : decode cX4_isSock 3 = .ok (.ldc2_w 75, 3) := dk_20 0 75 (dk_at dksX4_isSock_0 3 rfl rfl)
theorem dX4_isSock_6 : decode cX4_isSock 6 = .ok (.invokestatic 71, 3) := dk_184 0 71 (dk_at dksX4_isSock_0 6 rfl rfl)
theorem dX4_isSock_9 : decode cX4_isSock 9 = .ok (.ifCond .eq 19, 3) := dk_153 0 19 (dk_at dksX4_isSock_0 9 rfl rfl)
theorem dX4_isSock_12 : decode cX4_isSock 12 = .ok (.iload_n 1, 1) := dk_27 (dk_at dksX4_isSock_0 12 rfl rfl)
theorem dX4_isSock_13 : decode cX4_isSock 13 = .ok (.i2l, 1) := dk_133 (dk_at dksX4_isSock_0 13 rfl rfl)
theorem dX4_isSock_14 : decode cX4_isSock 14 = .ok (.lconst 0, 1) := dk_9 (dk_at dksX4_isSock_0 14 rfl rfl)
theorem dX4_isSock_15 : decode cX4_isSock 15 = .ok (.ldc2_w 77, 3) := dk_20 0 77 (dk_at dksX4_isSock_0 15 rfl rfl)
theorem dX4_isSock_18 : decode cX4_isSock 18 = .ok (.invokestatic 71, 3) := dk_184 0 71 (dk_at dksX4_isSock_0 18 rfl rfl)
theorem dX4_isSock_21 : decode cX4_isSock 21 = .ok (.ifCond .eq 7, 3) := dk_153 0 7 (dk_at dksX4_isSock_0 21 rfl rfl)
theorem dX4_isSock_24 : decode cX4_isSock 24 = .ok (.iconst 1, 1) := dk_4 (dk_at dksX4_isSock_1 0 rfl rfl)
theorem dX4_isSock_25 : decode cX4_isSock 25 = .ok (.goto 4, 3) := dk_167 0 4 (dk_at dksX4_isSock_1 1 rfl rfl)
theorem dX4_isSock_28 : decode cX4_isSock 28 = .ok (.iconst 0, 1) := dk_3 (dk_at dksX4_isSock_1 4 rfl rfl)
theorem dX4_isSock_29 : decode cX4_isSock 29 = .ok (.ireturn, 1) := dk_172 (dk_at dksX4_isSock_1 5 rfl rfl)
abbrev cX4_sell : ByteArray := prog_17_method_45_code
def yX4_sell : MethodName := ⟨RX4, "sell", "(II)I"⟩
def dkwX4_sell_0 : List UInt8 := [42, 182, 0, 79, 42, 42, 27, 28, 182, 0, 167, 182, 0, 85, 172]
abbrev dktX4_sell_0 : List UInt8 := dkwX4_sell_0 ++ []
theorem dksX4_sell_0 : cX4_sell.data.toList.drop 0 = dktX4_sell_0 := by decide +kernel
theorem dX4_sell_0 : decode cX4_sell 0 = .ok (.aload_n 0, 1) := dk_42 (dk_at dksX4_sell_0 0 rfl rfl)
theorem dX4_sell_1 : decode cX4_sell 1 = .ok (.invokevirtual 79, 3) := dk_182 0 79 (dk_at dksX4_sell_0 1 rfl rfl)
theorem dX4_sell_4 : decode cX4_sell 4 = .ok (.aload_n 0, 1) := dk_42 (dk_at dksX4_sell_0 4 rfl rfl)
theorem dX4_sell_5 : decode cX4_sell 5 = .ok (.aload_n 0, 1) := dk_42 (dk_at dksX4_sell_0 5 rfl rfl)
theorem dX4_sell_6 : decode cX4_sell 6 = .ok (.iload_n 1, 1) := dk_27 (dk_at dksX4_sell_0 6 rfl rfl)
theorem dX4_sell_7 : decode cX4_sell 7 = .ok (.iload_n 2, 1) := dk_28 (dk_at dksX4_sell_0 7 rfl rfl)
theorem dX4_sell_8 : decode cX4_sell 8 = .ok (.invokevirtual 167, 3) := dk_182 0 167 (dk_at dksX4_sell_0 8 rfl rfl)
theorem dX4_sell_11 : decode cX4_sell 11 = .ok (.invokevirtual 85, 3) := dk_182 0 85 (dk_at dksX4_sell_0 11 rfl rfl)
theorem dX4_sell_14 : decode cX4_sell 14 = .ok (.ireturn, 1) := dk_172 (dk_at dksX4_sell_0 14 rfl rfl)
abbrev cX4_sellIt : ByteArray := prog_17_method_44_code
def yX4_sellIt : MethodName := ⟨RX4, "sellIt", "(II)I"⟩
def dkwX4_sellIt_8 : List UInt8 := [180, 0, 9, 8, 46, 172]
abbrev dktX4_sellIt_8 : List UInt8 := dkwX4_sellIt_8 ++ []
def dkwX4_sellIt_7 : List UInt8 := [96, 79, 42, 180, 0, 9, 29, 7, 96, 28, 79, 42, 180, 0, 9, 8, 92, 46, 5, 96, 79, 42]
abbrev dktX4_sellIt_7 : List UInt8 := dkwX4_sellIt_7 ++ dktX4_sellIt_8
def dkwX4_sellIt_6 : List UInt8 := [28, 96, 92, 46, 4, 100, 79, 42, 180, 0, 9, 17, 0, 167, 6, 21, 4, 104, 96, 28, 96, 92, 46, 4]
abbrev dktX4_sellIt_6 : List UInt8 := dkwX4_sellIt_6 ++ dktX4_sellIt_7
def dkwX4_sellIt_5 : List UInt8 := [17, 0, 152, 21, 4, 182, 0, 164, 182, 0, 64, 172, 42, 180, 0, 9, 17, 0, 152, 6, 21, 4, 104, 96]
abbrev dktX4_sellIt_5 : List UInt8 := dkwX4_sellIt_5 ++ dktX4_sellIt_6
def dkwX4_sellIt_4 : List UInt8 := [42, 180, 0, 9, 17, 0, 152, 6, 21, 4, 104, 96, 28, 96, 46, 154, 0, 20, 42, 6, 16, 8, 42]
abbrev dktX4_sellIt_4 : List UInt8 := dkwX4_sellIt_4 ++ dktX4_sellIt_5
def dkwX4_sellIt_3 : List UInt8 := [29, 7, 96, 46, 2, 159, 0, 19, 42, 6, 16, 9, 42, 180, 0, 9, 29, 7, 96, 46, 182, 0, 64, 172]
abbrev dktX4_sellIt_3 : List UInt8 := dkwX4_sellIt_3 ++ dktX4_sellIt_4
def dkwX4_sellIt_2 : List UInt8 := [42, 180, 0, 9, 29, 5, 96, 46, 5, 160, 0, 11, 42, 6, 5, 5, 182, 0, 64, 172, 42, 180, 0, 9]
abbrev dktX4_sellIt_2 : List UInt8 := dkwX4_sellIt_2 ++ dktX4_sellIt_3
def dkwX4_sellIt_1 : List UInt8 := [154, 0, 9, 42, 5, 182, 0, 60, 172, 27, 184, 0, 91, 62, 42, 180, 0, 9, 29, 4, 96, 46, 54, 4]
abbrev dktX4_sellIt_1 : List UInt8 := dkwX4_sellIt_1 ++ dktX4_sellIt_2
def dkwX4_sellIt_0 : List UInt8 := [42, 27, 182, 0, 137, 154, 0, 9, 42, 4, 182, 0, 60, 172, 28, 133, 9, 20, 0, 77, 184, 0, 71]
abbrev dktX4_sellIt_0 : List UInt8 := dkwX4_sellIt_0 ++ dktX4_sellIt_1
theorem dksX4_sellIt_0 : cX4_sellIt.data.toList.drop 0 = dktX4_sellIt_0 := by decide +kernel
theorem dksX4_sellIt_1 : cX4_sellIt.data.toList.drop 23 = dktX4_sellIt_1 := dk_seg dksX4_sellIt_0 23 rfl rfl
theorem dksX4_sellIt_2 : cX4_sellIt.data.toList.drop 47 = dktX4_sellIt_2 := dk_seg dksX4_sellIt_1 24 rfl rfl
theorem dksX4_sellIt_3 : cX4_sellIt.data.toList.drop 71 = dktX4_sellIt_3 := dk_seg dksX4_sellIt_2 24 rfl rfl
theorem dksX4_sellIt_4 : cX4_sellIt.data.toList.drop 95 = dktX4_sellIt_4 := dk_seg dksX4_sellIt_3 24 rfl rfl
theorem dksX4_sellIt_5 : cX4_sellIt.data.toList.drop 118 = dktX4_sellIt_5 := dk_seg dksX4_sellIt_4 23 rfl rfl
theorem dksX4_sellIt_6 : cX4_sellIt.data.toList.drop 142 = dktX4_sellIt_6 := dk_seg dksX4_sellIt_5 24 rfl rfl
theorem dksX4_sellIt_7 : cX4_sellIt.data.toList.drop 166 = dktX4_sellIt_7 := dk_seg dksX4_sellIt_6 24 rfl rfl
theorem dksX4_sellIt_8 : cX4_sellIt.data.toList.drop 188 = dktX4_sellIt_8 := dk_seg dksX4_sellIt_7 22 rfl rfl
theorem dX4_sellIt_0 : decode cX4_sellIt 0 = .ok (.aload_n 0, 1) := dk_42 (dk_at dksX4_sellIt_0 0 rfl rfl)
theorem dX4_sellIt_1 : decode cX4_sellIt 1 = .ok (.iload_n 1, 1) := dk_27 (dk_at dksX4_sellIt_0 1 rfl rfl)
theorem dX4_sellIt_2 : decode cX4_sellIt 2 = .ok (.invokevirtual 137, 3) := dk_182 0 137 (dk_at dksX4_sellIt_0 2 rfl rfl)
theorem dX4_sellIt_5 : decode cX4_sellIt 5 = .ok (.ifCond .ne 9, 3) := dk_154 0 9 (dk_at dksX4_sellIt_0 5 rfl rfl)
theorem dX4_sellIt_8 : decode cX4_sellIt 8 = .ok (.aload_n 0, 1) := dk_42 (dk_at dksX4_sellIt_0 8 rfl rfl)
theorem dX4_sellIt_9 : decode cX4_sellIt 9 = .ok (.iconst 1, 1) := dk_4 (dk_at dksX4_sellIt_0 9 rfl rfl)
theorem dX4_sellIt_10 : decode cX4_sellIt 10 = .ok (.invokevirtual 60, 3) := dk_182 0 60 (dk_at dksX4_sellIt_0 10 rfl rfl)
theorem dX4_sellIt_13 : decode cX4_sellIt 13 = .ok (.ireturn, 1) := dk_172 (dk_at dksX4_sellIt_0 13 rfl rfl)
theorem dX4_sellIt_14 : decode cX4_sellIt 14 = .ok (.iload_n 2, 1) := dk_28 (dk_at dksX4_sellIt_0 14 rfl rfl)
theorem dX4_sellIt_15 : decode cX4_sellIt 15 = .ok (.i2l, 1) := dk_133 (dk_at dksX4_sellIt_0 15 rfl rfl)
theorem dX4_sellIt_16 : decode cX4_sellIt 16 = .ok (.lconst 0, 1) := dk_9 (dk_at dksX4_sellIt_0 16 rfl rfl)
theorem dX4_sellIt_17 : decode cX4_sellIt 17 = .ok (.ldc2_w 77, 3) := dk_20 0 77 (dk_at dksX4_sellIt_0 17 rfl rfl)
theorem dX4_sellIt_20 : decode cX4_sellIt 20 = .ok (.invokestatic 71, 3) := dk_184 0 71 (dk_at dksX4_sellIt_0 20 rfl rfl)
theorem dX4_sellIt_23 : decode cX4_sellIt 23 = .ok (.ifCond .ne 9, 3) := dk_154 0 9 (dk_at dksX4_sellIt_1 0 rfl rfl)
theorem dX4_sellIt_26 : decode cX4_sellIt 26 = .ok (.aload_n 0, 1) := dk_42 (dk_at dksX4_sellIt_1 3 rfl rfl)
theorem dX4_sellIt_27 : decode cX4_sellIt 27 = .ok (.iconst 2, 1) := dk_5 (dk_at dksX4_sellIt_1 4 rfl rfl)
theorem dX4_sellIt_28 : decode cX4_sellIt 28 = .ok (.invokevirtual 60, 3) := dk_182 0 60 (dk_at dksX4_sellIt_1 5 rfl rfl)
theorem dX4_sellIt_31 : decode cX4_sellIt 31 = .ok (.ireturn, 1) := dk_172 (dk_at dksX4_sellIt_1 8 rfl rfl)
theorem dX4_sellIt_32 : decode cX4_sellIt 32 = .ok (.iload_n 1, 1) := dk_27 (dk_at dksX4_sellIt_1 9 rfl rfl)
theorem dX4_sellIt_33 : decode cX4_sellIt 33 = .ok (.invokestatic 91, 3) := dk_184 0 91 (dk_at dksX4_sellIt_1 10 rfl rfl)
theorem dX4_sellIt_36 : decode cX4_sellIt 36 = .ok (.istore_n 3, 1) := dk_62 (dk_at dksX4_sellIt_1 13 rfl rfl)
theorem dX4_sellIt_37 : decode cX4_sellIt 37 = .ok (.aload_n 0, 1) := dk_42 (dk_at dksX4_sellIt_1 14 rfl rfl)
theorem dX4_sellIt_38 : decode cX4_sellIt 38 = .ok (.getfield 9, 3) := dk_180 0 9 (dk_at dksX4_sellIt_1 15 rfl rfl)
theorem dX4_sellIt_41 : decode cX4_sellIt 41 = .ok (.iload_n 3, 1) := dk_29 (dk_at dksX4_sellIt_1 18 rfl rfl)
theorem dX4_sellIt_42 : decode cX4_sellIt 42 = .ok (.iconst 1, 1) := dk_4 (dk_at dksX4_sellIt_1 19 rfl rfl)
theorem dX4_sellIt_43 : decode cX4_sellIt 43 = .ok (.iadd, 1) := dk_96 (dk_at dksX4_sellIt_1 20 rfl rfl)
theorem dX4_sellIt_44 : decode cX4_sellIt 44 = .ok (.iaload, 1) := dk_46 (dk_at dksX4_sellIt_1 21 rfl rfl)
theorem dX4_sellIt_45 : decode cX4_sellIt 45 = .ok (.istore 4, 2) := dk_54 4 (dk_at dksX4_sellIt_1 22 rfl rfl)
theorem dX4_sellIt_47 : decode cX4_sellIt 47 = .ok (.aload_n 0, 1) := dk_42 (dk_at dksX4_sellIt_2 0 rfl rfl)
theorem dX4_sellIt_48 : decode cX4_sellIt 48 = .ok (.getfield 9, 3) := dk_180 0 9 (dk_at dksX4_sellIt_2 1 rfl rfl)
theorem dX4_sellIt_51 : decode cX4_sellIt 51 = .ok (.iload_n 3, 1) := dk_29 (dk_at dksX4_sellIt_2 4 rfl rfl)
theorem dX4_sellIt_52 : decode cX4_sellIt 52 = .ok (.iconst 2, 1) := dk_5 (dk_at dksX4_sellIt_2 5 rfl rfl)
theorem dX4_sellIt_53 : decode cX4_sellIt 53 = .ok (.iadd, 1) := dk_96 (dk_at dksX4_sellIt_2 6 rfl rfl)
theorem dX4_sellIt_54 : decode cX4_sellIt 54 = .ok (.iaload, 1) := dk_46 (dk_at dksX4_sellIt_2 7 rfl rfl)
theorem dX4_sellIt_55 : decode cX4_sellIt 55 = .ok (.iconst 2, 1) := dk_5 (dk_at dksX4_sellIt_2 8 rfl rfl)
theorem dX4_sellIt_56 : decode cX4_sellIt 56 = .ok (.if_icmp .ne 11, 3) := dk_160 0 11 (dk_at dksX4_sellIt_2 9 rfl rfl)
theorem dX4_sellIt_59 : decode cX4_sellIt 59 = .ok (.aload_n 0, 1) := dk_42 (dk_at dksX4_sellIt_2 12 rfl rfl)
theorem dX4_sellIt_60 : decode cX4_sellIt 60 = .ok (.iconst 3, 1) := dk_6 (dk_at dksX4_sellIt_2 13 rfl rfl)
theorem dX4_sellIt_61 : decode cX4_sellIt 61 = .ok (.iconst 2, 1) := dk_5 (dk_at dksX4_sellIt_2 14 rfl rfl)
theorem dX4_sellIt_62 : decode cX4_sellIt 62 = .ok (.iconst 2, 1) := dk_5 (dk_at dksX4_sellIt_2 15 rfl rfl)
theorem dX4_sellIt_63 : decode cX4_sellIt 63 = .ok (.invokevirtual 64, 3) := dk_182 0 64 (dk_at dksX4_sellIt_2 16 rfl rfl)
theorem dX4_sellIt_66 : decode cX4_sellIt 66 = .ok (.ireturn, 1) := dk_172 (dk_at dksX4_sellIt_2 19 rfl rfl)
theorem dX4_sellIt_67 : decode cX4_sellIt 67 = .ok (.aload_n 0, 1) := dk_42 (dk_at dksX4_sellIt_2 20 rfl rfl)
theorem dX4_sellIt_68 : decode cX4_sellIt 68 = .ok (.getfield 9, 3) := dk_180 0 9 (dk_at dksX4_sellIt_2 21 rfl rfl)
theorem dX4_sellIt_71 : decode cX4_sellIt 71 = .ok (.iload_n 3, 1) := dk_29 (dk_at dksX4_sellIt_3 0 rfl rfl)
theorem dX4_sellIt_72 : decode cX4_sellIt 72 = .ok (.iconst 4, 1) := dk_7 (dk_at dksX4_sellIt_3 1 rfl rfl)
theorem dX4_sellIt_73 : decode cX4_sellIt 73 = .ok (.iadd, 1) := dk_96 (dk_at dksX4_sellIt_3 2 rfl rfl)
theorem dX4_sellIt_74 : decode cX4_sellIt 74 = .ok (.iaload, 1) := dk_46 (dk_at dksX4_sellIt_3 3 rfl rfl)
theorem dX4_sellIt_75 : decode cX4_sellIt 75 = .ok (.iconst (-1), 1) := dk_2 (dk_at dksX4_sellIt_3 4 rfl rfl)
theorem dX4_sellIt_76 : decode cX4_sellIt 76 = .ok (.if_icmp .eq 19, 3) := dk_159 0 19 (dk_at dksX4_sellIt_3 5 rfl rfl)
theorem dX4_sellIt_79 : decode cX4_sellIt 79 = .ok (.aload_n 0, 1) := dk_42 (dk_at dksX4_sellIt_3 8 rfl rfl)
theorem dX4_sellIt_80 : decode cX4_sellIt 80 = .ok (.iconst 3, 1) := dk_6 (dk_at dksX4_sellIt_3 9 rfl rfl)
theorem dX4_sellIt_81 : decode cX4_sellIt 81 = .ok (.bipush 9, 2) := dk_16 9 (dk_at dksX4_sellIt_3 10 rfl rfl)
theorem dX4_sellIt_83 : decode cX4_sellIt 83 = .ok (.aload_n 0, 1) := dk_42 (dk_at dksX4_sellIt_3 12 rfl rfl)
theorem dX4_sellIt_84 : decode cX4_sellIt 84 = .ok (.getfield 9, 3) := dk_180 0 9 (dk_at dksX4_sellIt_3 13 rfl rfl)
theorem dX4_sellIt_87 : decode cX4_sellIt 87 = .ok (.iload_n 3, 1) := dk_29 (dk_at dksX4_sellIt_3 16 rfl rfl)
theorem dX4_sellIt_88 : decode cX4_sellIt 88 = .ok (.iconst 4, 1) := dk_7 (dk_at dksX4_sellIt_3 17 rfl rfl)
theorem dX4_sellIt_89 : decode cX4_sellIt 89 = .ok (.iadd, 1) := dk_96 (dk_at dksX4_sellIt_3 18 rfl rfl)
theorem dX4_sellIt_90 : decode cX4_sellIt 90 = .ok (.iaload, 1) := dk_46 (dk_at dksX4_sellIt_3 19 rfl rfl)
theorem dX4_sellIt_91 : decode cX4_sellIt 91 = .ok (.invokevirtual 64, 3) := dk_182 0 64 (dk_at dksX4_sellIt_3 20 rfl rfl)
theorem dX4_sellIt_94 : decode cX4_sellIt 94 = .ok (.ireturn, 1) := dk_172 (dk_at dksX4_sellIt_3 23 rfl rfl)
theorem dX4_sellIt_95 : decode cX4_sellIt 95 = .ok (.aload_n 0, 1) := dk_42 (dk_at dksX4_sellIt_4 0 rfl rfl)
theorem dX4_sellIt_96 : decode cX4_sellIt 96 = .ok (.getfield 9, 3) := dk_180 0 9 (dk_at dksX4_sellIt_4 1 rfl rfl)
theorem dX4_sellIt_99 : decode cX4_sellIt 99 = .ok (.sipush 152, 3) := dk_17 0 152 (dk_at dksX4_sellIt_4 4 rfl rfl)
theorem dX4_sellIt_102 : decode cX4_sellIt 102 = .ok (.iconst 3, 1) := dk_6 (dk_at dksX4_sellIt_4 7 rfl rfl)
theorem dX4_sellIt_103 : decode cX4_sellIt 103 = .ok (.iload 4, 2) := dk_21 4 (dk_at dksX4_sellIt_4 8 rfl rfl)
theorem dX4_sellIt_105 : decode cX4_sellIt 105 = .ok (.imul, 1) := dk_104 (dk_at dksX4_sellIt_4 10 rfl rfl)
theorem dX4_sellIt_106 : decode cX4_sellIt 106 = .ok (.iadd, 1) := dk_96 (dk_at dksX4_sellIt_4 11 rfl rfl)
theorem dX4_sellIt_107 : decode cX4_sellIt 107 = .ok (.iload_n 2, 1) := dk_28 (dk_at dksX4_sellIt_4 12 rfl rfl)
theorem dX4_sellIt_108 : decode cX4_sellIt 108 = .ok (.iadd, 1) := dk_96 (dk_at dksX4_sellIt_4 13 rfl rfl)
theorem dX4_sellIt_109 : decode cX4_sellIt 109 = .ok (.iaload, 1) := dk_46 (dk_at dksX4_sellIt_4 14 rfl rfl)
theorem dX4_sellIt_110 : decode cX4_sellIt 110 = .ok (.ifCond .ne 20, 3) := dk_154 0 20 (dk_at dksX4_sellIt_4 15 rfl rfl)
theorem dX4_sellIt_113 : decode cX4_sellIt 113 = .ok (.aload_n 0, 1) := dk_42 (dk_at dksX4_sellIt_4 18 rfl rfl)
theorem dX4_sellIt_114 : decode cX4_sellIt 114 = .ok (.iconst 3, 1) := dk_6 (dk_at dksX4_sellIt_4 19 rfl rfl)
theorem dX4_sellIt_115 : decode cX4_sellIt 115 = .ok (.bipush 8, 2) := dk_16 8 (dk_at dksX4_sellIt_4 20 rfl rfl)
theorem dX4_sellIt_117 : decode cX4_sellIt 117 = .ok (.aload_n 0, 1) := dk_42 (dk_at dksX4_sellIt_4 22 rfl rfl)
theorem dX4_sellIt_118 : decode cX4_sellIt 118 = .ok (.sipush 152, 3) := dk_17 0 152 (dk_at dksX4_sellIt_5 0 rfl rfl)
theorem dX4_sellIt_121 : decode cX4_sellIt 121 = .ok (.iload 4, 2) := dk_21 4 (dk_at dksX4_sellIt_5 3 rfl rfl)
theorem dX4_sellIt_123 : decode cX4_sellIt 123 = .ok (.invokevirtual 164, 3) := dk_182 0 164 (dk_at dksX4_sellIt_5 5 rfl rfl)
theorem dX4_sellIt_126 : decode cX4_sellIt 126 = .ok (.invokevirtual 64, 3) := dk_182 0 64 (dk_at dksX4_sellIt_5 8 rfl rfl)
theorem dX4_sellIt_129 : decode cX4_sellIt 129 = .ok (.ireturn, 1) := dk_172 (dk_at dksX4_sellIt_5 11 rfl rfl)
theorem dX4_sellIt_130 : decode cX4_sellIt 130 = .ok (.aload_n 0, 1) := dk_42 (dk_at dksX4_sellIt_5 12 rfl rfl)
theorem dX4_sellIt_131 : decode cX4_sellIt 131 = .ok (.getfield 9, 3) := dk_180 0 9 (dk_at dksX4_sellIt_5 13 rfl rfl)
theorem dX4_sellIt_134 : decode cX4_sellIt 134 = .ok (.sipush 152, 3) := dk_17 0 152 (dk_at dksX4_sellIt_5 16 rfl rfl)
theorem dX4_sellIt_137 : decode cX4_sellIt 137 = .ok (.iconst 3, 1) := dk_6 (dk_at dksX4_sellIt_5 19 rfl rfl)
theorem dX4_sellIt_138 : decode cX4_sellIt 138 = .ok (.iload 4, 2) := dk_21 4 (dk_at dksX4_sellIt_5 20 rfl rfl)
theorem dX4_sellIt_140 : decode cX4_sellIt 140 = .ok (.imul, 1) := dk_104 (dk_at dksX4_sellIt_5 22 rfl rfl)
theorem dX4_sellIt_141 : decode cX4_sellIt 141 = .ok (.iadd, 1) := dk_96 (dk_at dksX4_sellIt_5 23 rfl rfl)
theorem dX4_sellIt_142 : decode cX4_sellIt 142 = .ok (.iload_n 2, 1) := dk_28 (dk_at dksX4_sellIt_6 0 rfl rfl)
theorem dX4_sellIt_143 : decode cX4_sellIt 143 = .ok (.iadd, 1) := dk_96 (dk_at dksX4_sellIt_6 1 rfl rfl)
theorem dX4_sellIt_144 : decode cX4_sellIt 144 = .ok (.dup2, 1) := dk_92 (dk_at dksX4_sellIt_6 2 rfl rfl)
theorem dX4_sellIt_145 : decode cX4_sellIt 145 = .ok (.iaload, 1) := dk_46 (dk_at dksX4_sellIt_6 3 rfl rfl)
theorem dX4_sellIt_146 : decode cX4_sellIt 146 = .ok (.iconst 1, 1) := dk_4 (dk_at dksX4_sellIt_6 4 rfl rfl)
theorem dX4_sellIt_147 : decode cX4_sellIt 147 = .ok (.isub, 1) := dk_100 (dk_at dksX4_sellIt_6 5 rfl rfl)
theorem dX4_sellIt_148 : decode cX4_sellIt 148 = .ok (.iastore, 1) := dk_79 (dk_at dksX4_sellIt_6 6 rfl rfl)
theorem dX4_sellIt_149 : decode cX4_sellIt 149 = .ok (.aload_n 0, 1) := dk_42 (dk_at dksX4_sellIt_6 7 rfl rfl)
theorem dX4_sellIt_150 : decode cX4_sellIt 150 = .ok (.getfield 9, 3) := dk_180 0 9 (dk_at dksX4_sellIt_6 8 rfl rfl)
theorem dX4_sellIt_153 : decode cX4_sellIt 153 = .ok (.sipush 167, 3) := dk_17 0 167 (dk_at dksX4_sellIt_6 11 rfl rfl)
theorem dX4_sellIt_156 : decode cX4_sellIt 156 = .ok (.iconst 3, 1) := dk_6 (dk_at dksX4_sellIt_6 14 rfl rfl)
theorem dX4_sellIt_157 : decode cX4_sellIt 157 = .ok (.iload 4, 2) := dk_21 4 (dk_at dksX4_sellIt_6 15 rfl rfl)
theorem dX4_sellIt_159 : decode cX4_sellIt 159 = .ok (.imul, 1) := dk_104 (dk_at dksX4_sellIt_6 17 rfl rfl)
theorem dX4_sellIt_160 : decode cX4_sellIt 160 = .ok (.iadd, 1) := dk_96 (dk_at dksX4_sellIt_6 18 rfl rfl)
theorem dX4_sellIt_161 : decode cX4_sellIt 161 = .ok (.iload_n 2, 1) := dk_28 (dk_at dksX4_sellIt_6 19 rfl rfl)
theorem dX4_sellIt_162 : decode cX4_sellIt 162 = .ok (.iadd, 1) := dk_96 (dk_at dksX4_sellIt_6 20 rfl rfl)
theorem dX4_sellIt_163 : decode cX4_sellIt 163 = .ok (.dup2, 1) := dk_92 (dk_at dksX4_sellIt_6 21 rfl rfl)
theorem dX4_sellIt_164 : decode cX4_sellIt 164 = .ok (.iaload, 1) := dk_46 (dk_at dksX4_sellIt_6 22 rfl rfl)
theorem dX4_sellIt_165 : decode cX4_sellIt 165 = .ok (.iconst 1, 1) := dk_4 (dk_at dksX4_sellIt_6 23 rfl rfl)
theorem dX4_sellIt_166 : decode cX4_sellIt 166 = .ok (.iadd, 1) := dk_96 (dk_at dksX4_sellIt_7 0 rfl rfl)
theorem dX4_sellIt_167 : decode cX4_sellIt 167 = .ok (.iastore, 1) := dk_79 (dk_at dksX4_sellIt_7 1 rfl rfl)
theorem dX4_sellIt_168 : decode cX4_sellIt 168 = .ok (.aload_n 0, 1) := dk_42 (dk_at dksX4_sellIt_7 2 rfl rfl)
theorem dX4_sellIt_169 : decode cX4_sellIt 169 = .ok (.getfield 9, 3) := dk_180 0 9 (dk_at dksX4_sellIt_7 3 rfl rfl)
theorem dX4_sellIt_172 : decode cX4_sellIt 172 = .ok (.iload_n 3, 1) := dk_29 (dk_at dksX4_sellIt_7 6 rfl rfl)
theorem dX4_sellIt_173 : decode cX4_sellIt 173 = .ok (.iconst 4, 1) := dk_7 (dk_at dksX4_sellIt_7 7 rfl rfl)
theorem dX4_sellIt_174 : decode cX4_sellIt 174 = .ok (.iadd, 1) := dk_96 (dk_at dksX4_sellIt_7 8 rfl rfl)
theorem dX4_sellIt_175 : decode cX4_sellIt 175 = .ok (.iload_n 2, 1) := dk_28 (dk_at dksX4_sellIt_7 9 rfl rfl)
theorem dX4_sellIt_176 : decode cX4_sellIt 176 = .ok (.iastore, 1) := dk_79 (dk_at dksX4_sellIt_7 10 rfl rfl)
theorem dX4_sellIt_177 : decode cX4_sellIt 177 = .ok (.aload_n 0, 1) := dk_42 (dk_at dksX4_sellIt_7 11 rfl rfl)
theorem dX4_sellIt_178 : decode cX4_sellIt 178 = .ok (.getfield 9, 3) := dk_180 0 9 (dk_at dksX4_sellIt_7 12 rfl rfl)
theorem dX4_sellIt_181 : decode cX4_sellIt 181 = .ok (.iconst 5, 1) := dk_8 (dk_at dksX4_sellIt_7 15 rfl rfl)
theorem dX4_sellIt_182 : decode cX4_sellIt 182 = .ok (.dup2, 1) := dk_92 (dk_at dksX4_sellIt_7 16 rfl rfl)
theorem dX4_sellIt_183 : decode cX4_sellIt 183 = .ok (.iaload, 1) := dk_46 (dk_at dksX4_sellIt_7 17 rfl rfl)
theorem dX4_sellIt_184 : decode cX4_sellIt 184 = .ok (.iconst 2, 1) := dk_5 (dk_at dksX4_sellIt_7 18 rfl rfl)
theorem dX4_sellIt_185 : decode cX4_sellIt 185 = .ok (.iadd, 1) := dk_96 (dk_at dksX4_sellIt_7 19 rfl rfl)
theorem dX4_sellIt_186 : decode cX4_sellIt 186 = .ok (.iastore, 1) := dk_79 (dk_at dksX4_sellIt_7 20 rfl rfl)
theorem dX4_sellIt_187 : decode cX4_sellIt 187 = .ok (.aload_n 0, 1) := dk_42 (dk_at dksX4_sellIt_7 21 rfl rfl)
theorem dX4_sellIt_188 : decode cX4_sellIt 188 = .ok (.getfield 9, 3) := dk_180 0 9 (dk_at dksX4_sellIt_8 0 rfl rfl)
theorem dX4_sellIt_191 : decode cX4_sellIt 191 = .ok (.iconst 5, 1) := dk_8 (dk_at dksX4_sellIt_8 3 rfl rfl)
theorem dX4_sellIt_192 : decode cX4_sellIt 192 = .ok (.iaload, 1) := dk_46 (dk_at dksX4_sellIt_8 4 rfl rfl)
theorem dX4_sellIt_193 : decode cX4_sellIt 193 = .ok (.ireturn, 1) := dk_172 (dk_at dksX4_sellIt_8 5 rfl rfl)
abbrev cX4_ofSize : ByteArray := prog_17_method_43_code
def yX4_ofSize : MethodName := ⟨RX4, "ofSize", "(II)I"⟩
def dkwX4_ofSize_1 : List UInt8 := [180, 0, 9, 27, 6, 28, 104, 96, 5, 96, 46, 96, 172]
abbrev dktX4_ofSize_1 : List UInt8 := dkwX4_ofSize_1 ++ []
def dkwX4_ofSize_0 : List UInt8 := [42, 180, 0, 9, 27, 6, 28, 104, 96, 46, 42, 180, 0, 9, 27, 6, 28, 104, 96, 4, 96, 46, 96, 42]
abbrev dktX4_ofSize_0 : List UInt8 := dkwX4_ofSize_0 ++ dktX4_ofSize_1
theorem dksX4_ofSize_0 : cX4_ofSize.data.toList.drop 0 = dktX4_ofSize_0 := by decide +kernel
theorem dksX4_ofSize_1 : cX4_ofSize.data.toList.drop 24 = dktX4_ofSize_1 := dk_seg dksX4_ofSize_0 24 rfl rfl
theorem dX4_ofSize_0 : decode cX4_ofSize 0 = .ok (.aload_n 0, 1) := dk_42 (dk_at dksX4_ofSize_0 0 rfl rfl)
theorem dX4_ofSize_1 : decode cX4_ofSize 1 = .ok (.getfield 9, 3) := dk_180 0 9 (dk_at dksX4_ofSize_0 1 rfl rfl)
theorem dX4_ofSize_4 : decode cX4_ofSize 4 = .ok (.iload_n 1, 1) := dk_27 (dk_at dksX4_ofSize_0 4 rfl rfl)
theorem dX4_ofSize_5 : decode cX4_ofSize 5 = .ok (.iconst 3, 1) := dk_6 (dk_at dksX4_ofSize_0 5 rfl rfl)
theorem dX4_ofSize_6 : decode cX4_ofSize 6 = .ok (.iload_n 2, 1) := dk_28 (dk_at dksX4_ofSize_0 6 rfl rfl)
theorem dX4_ofSize_7 : decode cX4_ofSize 7 = .ok (.imul, 1) := dk_104 (dk_at dksX4_ofSize_0 7 rfl rfl)
theorem dX4_ofSize_8 : decode cX4_ofSize 8 = .ok (.iadd, 1) := dk_96 (dk_at dksX4_ofSize_0 8 rfl rfl)
theorem dX4_ofSize_9 : decode cX4_ofSize 9 = .ok (.iaload, 1) := dk_46 (dk_at dksX4_ofSize_0 9 rfl rfl)
theorem dX4_ofSize_10 : decode cX4_ofSize 10 = .ok (.aload_n 0, 1) := dk_42 (dk_at dksX4_ofSize_0 10 rfl rfl)
theorem dX4_ofSize_11 : decode cX4_ofSize 11 = .ok (.getfield 9, 3) := dk_180 0 9 (dk_at dksX4_ofSize_0 11 rfl rfl)
theorem dX4_ofSize_14 : decode cX4_ofSize 14 = .ok (.iload_n 1, 1) := dk_27 (dk_at dksX4_ofSize_0 14 rfl rfl)
theorem dX4_ofSize_15 : decode cX4_ofSize 15 = .ok (.iconst 3, 1) := dk_6 (dk_at dksX4_ofSize_0 15 rfl rfl)
theorem dX4_ofSize_16 : decode cX4_ofSize 16 = .ok (.iload_n 2, 1) := dk_28 (dk_at dksX4_ofSize_0 16 rfl rfl)
theorem dX4_ofSize_17 : decode cX4_ofSize 17 = .ok (.imul, 1) := dk_104 (dk_at dksX4_ofSize_0 17 rfl rfl)
theorem dX4_ofSize_18 : decode cX4_ofSize 18 = .ok (.iadd, 1) := dk_96 (dk_at dksX4_ofSize_0 18 rfl rfl)
theorem dX4_ofSize_19 : decode cX4_ofSize 19 = .ok (.iconst 1, 1) := dk_4 (dk_at dksX4_ofSize_0 19 rfl rfl)
theorem dX4_ofSize_20 : decode cX4_ofSize 20 = .ok (.iadd, 1) := dk_96 (dk_at dksX4_ofSize_0 20 rfl rfl)
theorem dX4_ofSize_21 : decode cX4_ofSize 21 = .ok (.iaload, 1) := dk_46 (dk_at dksX4_ofSize_0 21 rfl rfl)
theorem dX4_ofSize_22 : decode cX4_ofSize 22 = .ok (.iadd, 1) := dk_96 (dk_at dksX4_ofSize_0 22 rfl rfl)
theorem dX4_ofSize_23 : decode cX4_ofSize 23 = .ok (.aload_n 0, 1) := dk_42 (dk_at dksX4_ofSize_0 23 rfl rfl)
theorem dX4_ofSize_24 : decode cX4_ofSize 24 = .ok (.getfield 9, 3) := dk_180 0 9 (dk_at dksX4_ofSize_1 0 rfl rfl)
theorem dX4_ofSize_27 : decode cX4_ofSize 27 = .ok (.iload_n 1, 1) := dk_27 (dk_at dksX4_ofSize_1 3 rfl rfl)
theorem dX4_ofSize_28 : decode cX4_ofSize 28 = .ok (.iconst 3, 1) := dk_6 (dk_at dksX4_ofSize_1 4 rfl rfl)
theorem dX4_ofSize_29 : decode cX4_ofSize 29 = .ok (.iload_n 2, 1) := dk_28 (dk_at dksX4_ofSize_1 5 rfl rfl)
theorem dX4_ofSize_30 : decode cX4_ofSize 30 = .ok (.imul, 1) := dk_104 (dk_at dksX4_ofSize_1 6 rfl rfl)
theorem dX4_ofSize_31 : decode cX4_ofSize 31 = .ok (.iadd, 1) := dk_96 (dk_at dksX4_ofSize_1 7 rfl rfl)
theorem dX4_ofSize_32 : decode cX4_ofSize 32 = .ok (.iconst 2, 1) := dk_5 (dk_at dksX4_ofSize_1 8 rfl rfl)
theorem dX4_ofSize_33 : decode cX4_ofSize 33 = .ok (.iadd, 1) := dk_96 (dk_at dksX4_ofSize_1 9 rfl rfl)
theorem dX4_ofSize_34 : decode cX4_ofSize 34 = .ok (.iaload, 1) := dk_46 (dk_at dksX4_ofSize_1 10 rfl rfl)
theorem dX4_ofSize_35 : decode cX4_ofSize 35 = .ok (.iadd, 1) := dk_96 (dk_at dksX4_ofSize_1 11 rfl rfl)
theorem dX4_ofSize_36 : decode cX4_ofSize 36 = .ok (.ireturn, 1) := dk_172 (dk_at dksX4_ofSize_1 12 rfl rfl)
abbrev cX4_jumperOf : ByteArray := prog_17_method_46_code
def yX4_jumperOf : MethodName := ⟨RX4, "jumperOf", "(II)I"⟩
def dkwX4_jumperOf_2 : List UInt8 := [5, 182, 0, 60, 172]
abbrev dktX4_jumperOf_2 : List UInt8 := dkwX4_jumperOf_2 ++ []
def dkwX4_jumperOf_1 : List UInt8 := [20, 0, 170, 184, 0, 71, 153, 0, 17, 42, 180, 0, 9, 27, 184, 0, 91, 28, 96, 46, 167, 0, 8, 42]
abbrev dktX4_jumperOf_1 : List UInt8 := dkwX4_jumperOf_1 ++ dktX4_jumperOf_2
def dkwX4_jumperOf_0 : List UInt8 := [42, 3, 181, 0, 54, 42, 27, 182, 0, 137, 154, 0, 9, 42, 4, 182, 0, 60, 172, 28, 133, 9]
abbrev dktX4_jumperOf_0 : List UInt8 := dkwX4_jumperOf_0 ++ dktX4_jumperOf_1
theorem dksX4_jumperOf_0 : cX4_jumperOf.data.toList.drop 0 = dktX4_jumperOf_0 := by decide +kernel
theorem dksX4_jumperOf_1 : cX4_jumperOf.data.toList.drop 22 = dktX4_jumperOf_1 := dk_seg dksX4_jumperOf_0 22 rfl rfl
theorem dksX4_jumperOf_2 : cX4_jumperOf.data.toList.drop 46 = dktX4_jumperOf_2 := dk_seg dksX4_jumperOf_1 24 rfl rfl
theorem dX4_jumperOf_0 : decode cX4_jumperOf 0 = .ok (.aload_n 0, 1) := dk_42 (dk_at dksX4_jumperOf_0 0 rfl rfl)
theorem dX4_jumperOf_1 : decode cX4_jumperOf 1 = .ok (.iconst 0, 1) := dk_3 (dk_at dksX4_jumperOf_0 1 rfl rfl)
theorem dX4_jumperOf_2 : decode cX4_jumperOf 2 = .ok (.putfield 54, 3) := dk_181 0 54 (dk_at dksX4_jumperOf_0 2 rfl rfl)
theorem dX4_jumperOf_5 : decode cX4_jumperOf 5 = .ok (.aload_n 0, 1) := dk_42 (dk_at dksX4_jumperOf_0 5 rfl rfl)
theorem dX4_jumperOf_6 : decode cX4_jumperOf 6 = .ok (.iload_n 1, 1) := dk_27 (dk_at dksX4_jumperOf_0 6 rfl rfl)
theorem dX4_jumperOf_7 : decode cX4_jumperOf 7 = .ok (.invokevirtual 137, 3) := dk_182 0 137 (dk_at dksX4_jumperOf_0 7 rfl rfl)
theorem dX4_jumperOf_10 : decode cX4_jumperOf 10 = .ok (.ifCond .ne 9, 3) := dk_154 0 9 (dk_at dksX4_jumperOf_0 10 rfl rfl)
theorem dX4_jumperOf_13 : decode cX4_jumperOf 13 = .ok (.aload_n 0, 1) := dk_42 (dk_at dksX4_jumperOf_0 13 rfl rfl)
theorem dX4_jumperOf_14 : decode cX4_jumperOf 14 = .ok (.iconst 1, 1) := dk_4 (dk_at dksX4_jumperOf_0 14 rfl rfl)
theorem dX4_jumperOf_15 : decode cX4_jumperOf 15 = .ok (.invokevirtual 60, 3) := dk_182 0 60 (dk_at dksX4_jumperOf_0 15 rfl rfl)
theorem dX4_jumperOf_18 : decode cX4_jumperOf 18 = .ok (.ireturn, 1) := dk_172 (dk_at dksX4_jumperOf_0 18 rfl rfl)
theorem dX4_jumperOf_19 : decode cX4_jumperOf 19 = .ok (.iload_n 2, 1) := dk_28 (dk_at dksX4_jumperOf_0 19 rfl rfl)
theorem dX4_jumperOf_20 : decode cX4_jumperOf 20 = .ok (.i2l, 1) := dk_133 (dk_at dksX4_jumperOf_0 20 rfl rfl)
theorem dX4_jumperOf_21 : decode cX4_jumperOf 21 = .ok (.lconst 0, 1) := dk_9 (dk_at dksX4_jumperOf_0 21 rfl rfl)
theorem dX4_jumperOf_22 : decode cX4_jumperOf 22 = .ok (.ldc2_w 170, 3) := dk_20 0 170 (dk_at dksX4_jumperOf_1 0 rfl rfl)
theorem dX4_jumperOf_25 : decode cX4_jumperOf 25 = .ok (.invokestatic 71, 3) := dk_184 0 71 (dk_at dksX4_jumperOf_1 3 rfl rfl)
theorem dX4_jumperOf_28 : decode cX4_jumperOf 28 = .ok (.ifCond .eq 17, 3) := dk_153 0 17 (dk_at dksX4_jumperOf_1 6 rfl rfl)
theorem dX4_jumperOf_31 : decode cX4_jumperOf 31 = .ok (.aload_n 0, 1) := dk_42 (dk_at dksX4_jumperOf_1 9 rfl rfl)
theorem dX4_jumperOf_32 : decode cX4_jumperOf 32 = .ok (.getfield 9, 3) := dk_180 0 9 (dk_at dksX4_jumperOf_1 10 rfl rfl)
theorem dX4_jumperOf_35 : decode cX4_jumperOf 35 = .ok (.iload_n 1, 1) := dk_27 (dk_at dksX4_jumperOf_1 13 rfl rfl)
theorem dX4_jumperOf_36 : decode cX4_jumperOf 36 = .ok (.invokestatic 91, 3) := dk_184 0 91 (dk_at dksX4_jumperOf_1 14 rfl rfl)
theorem dX4_jumperOf_39 : decode cX4_jumperOf 39 = .ok (.iload_n 2, 1) := dk_28 (dk_at dksX4_jumperOf_1 17 rfl rfl)
theorem dX4_jumperOf_40 : decode cX4_jumperOf 40 = .ok (.iadd, 1) := dk_96 (dk_at dksX4_jumperOf_1 18 rfl rfl)
theorem dX4_jumperOf_41 : decode cX4_jumperOf 41 = .ok (.iaload, 1) := dk_46 (dk_at dksX4_jumperOf_1 19 rfl rfl)
theorem dX4_jumperOf_42 : decode cX4_jumperOf 42 = .ok (.goto 8, 3) := dk_167 0 8 (dk_at dksX4_jumperOf_1 20 rfl rfl)
theorem dX4_jumperOf_45 : decode cX4_jumperOf 45 = .ok (.aload_n 0, 1) := dk_42 (dk_at dksX4_jumperOf_1 23 rfl rfl)
theorem dX4_jumperOf_46 : decode cX4_jumperOf 46 = .ok (.iconst 2, 1) := dk_5 (dk_at dksX4_jumperOf_2 0 rfl rfl)
theorem dX4_jumperOf_47 : decode cX4_jumperOf 47 = .ok (.invokevirtual 60, 3) := dk_182 0 60 (dk_at dksX4_jumperOf_2 1 rfl rfl)
theorem dX4_jumperOf_50 : decode cX4_jumperOf 50 = .ok (.ireturn, 1) := dk_172 (dk_at dksX4_jumperOf_2 4 rfl rfl)
abbrev cX4_socks : ByteArray := prog_17_method_47_code
def yX4_socks : MethodName := ⟨RX4, "socks", "(IIZ)I"⟩
def dkwX4_socks_1 : List UInt8 := [167, 0, 6, 17, 0, 152, 6, 27, 104, 96, 28, 96, 46, 167, 0, 8, 42, 4, 182, 0, 60, 172]
abbrev dktX4_socks_1 : List UInt8 := dkwX4_socks_1 ++ []
def dkwX4_socks_0 : List UInt8 := [42, 3, 181, 0, 54, 27, 28, 184, 0, 156, 153, 0, 30, 42, 180, 0, 9, 29, 153, 0, 9, 17, 0, 167]
abbrev dktX4_socks_0 : List UInt8 := dkwX4_socks_0 ++ dktX4_socks_1
theorem dksX4_socks_0 : cX4_socks.data.toList.drop 0 = dktX4_socks_0 := by decide +kernel
theorem dksX4_socks_1 : cX4_socks.data.toList.drop 24 = dktX4_socks_1 := dk_seg dksX4_socks_0 24 rfl rfl
theorem dX4_socks_0 : decode cX4_socks 0 = .ok (.aload_n 0, 1) := dk_42 (dk_at dksX4_socks_0 0 rfl rfl)
theorem dX4_socks_1 : decode cX4_socks 1 = .ok (.iconst 0, 1) := dk_3 (dk_at dksX4_socks_0 1 rfl rfl)
theorem dX4_socks_2 : decode cX4_socks 2 = .ok (.putfield 54, 3) := dk_181 0 54 (dk_at dksX4_socks_0 2 rfl rfl)
theorem dX4_socks_5 : decode cX4_socks 5 = .ok (.iload_n 1, 1) := dk_27 (dk_at dksX4_socks_0 5 rfl rfl)
theorem dX4_socks_6 : decode cX4_socks 6 = .ok (.iload_n 2, 1) := dk_28 (dk_at dksX4_socks_0 6 rfl rfl)
theorem dX4_socks_7 : decode cX4_socks 7 = .ok (.invokestatic 156, 3) := dk_184 0 156 (dk_at dksX4_socks_0 7 rfl rfl)
theorem dX4_socks_10 : decode cX4_socks 10 = .ok (.ifCond .eq 30, 3) := dk_153 0 30 (dk_at dksX4_socks_0 10 rfl rfl)
theorem dX4_socks_13 : decode cX4_socks 13 = .ok (.aload_n 0, 1) := dk_42 (dk_at dksX4_socks_0 13 rfl rfl)
theorem dX4_socks_14 : decode cX4_socks 14 = .ok (.getfield 9, 3) := dk_180 0 9 (dk_at dksX4_socks_0 14 rfl rfl)
theorem dX4_socks_17 : decode cX4_socks 17 = .ok (.iload_n 3, 1) := dk_29 (dk_at dksX4_socks_0 17 rfl rfl)
theorem dX4_socks_18 : decode cX4_socks 18 = .ok (.ifCond .eq 9, 3) := dk_153 0 9 (dk_at dksX4_socks_0 18 rfl rfl)
theorem dX4_socks_21 : decode cX4_socks 21 = .ok (.sipush 167, 3) := dk_17 0 167 (dk_at dksX4_socks_0 21 rfl rfl)
theorem dX4_socks_24 : decode cX4_socks 24 = .ok (.goto 6, 3) := dk_167 0 6 (dk_at dksX4_socks_1 0 rfl rfl)
theorem dX4_socks_27 : decode cX4_socks 27 = .ok (.sipush 152, 3) := dk_17 0 152 (dk_at dksX4_socks_1 3 rfl rfl)
theorem dX4_socks_30 : decode cX4_socks 30 = .ok (.iconst 3, 1) := dk_6 (dk_at dksX4_socks_1 6 rfl rfl)
theorem dX4_socks_31 : decode cX4_socks 31 = .ok (.iload_n 1, 1) := dk_27 (dk_at dksX4_socks_1 7 rfl rfl)
theorem dX4_socks_32 : decode cX4_socks 32 = .ok (.imul, 1) := dk_104 (dk_at dksX4_socks_1 8 rfl rfl)
theorem dX4_socks_33 : decode cX4_socks 33 = .ok (.iadd, 1) := dk_96 (dk_at dksX4_socks_1 9 rfl rfl)
theorem dX4_socks_34 : decode cX4_socks 34 = .ok (.iload_n 2, 1) := dk_28 (dk_at dksX4_socks_1 10 rfl rfl)
theorem dX4_socks_35 : decode cX4_socks 35 = .ok (.iadd, 1) := dk_96 (dk_at dksX4_socks_1 11 rfl rfl)
theorem dX4_socks_36 : decode cX4_socks 36 = .ok (.iaload, 1) := dk_46 (dk_at dksX4_socks_1 12 rfl rfl)
theorem dX4_socks_37 : decode cX4_socks 37 = .ok (.goto 8, 3) := dk_167 0 8 (dk_at dksX4_socks_1 13 rfl rfl)
theorem dX4_socks_40 : decode cX4_socks 40 = .ok (.aload_n 0, 1) := dk_42 (dk_at dksX4_socks_1 16 rfl rfl)
theorem dX4_socks_41 : decode cX4_socks 41 = .ok (.iconst 1, 1) := dk_4 (dk_at dksX4_socks_1 17 rfl rfl)
theorem dX4_socks_42 : decode cX4_socks 42 = .ok (.invokevirtual 60, 3) := dk_182 0 60 (dk_at dksX4_socks_1 18 rfl rfl)
theorem dX4_socks_45 : decode cX4_socks 45 = .ok (.ireturn, 1) := dk_172 (dk_at dksX4_socks_1 21 rfl rfl)
abbrev cX4_bestSize : ByteArray := prog_17_method_48_code
def yX4_bestSize : MethodName := ⟨RX4, "bestSize", "()I"⟩
def dkwX4_bestSize_2 : List UInt8 := [17, 0, 167, 27, 182, 0, 164, 154, 0, 11, 42, 4, 182, 0, 60, 167, 0, 4, 27, 172]
abbrev dktX4_bestSize_2 : List UInt8 := dkwX4_bestSize_2 ++ []
def dkwX4_bestSize_1 : List UInt8 := [17, 0, 167, 27, 182, 0, 164, 164, 0, 7, 28, 167, 0, 4, 27, 60, 132, 2, 1, 167, 255, 223, 42]
abbrev dktX4_bestSize_1 : List UInt8 := dkwX4_bestSize_1 ++ dktX4_bestSize_2
def dkwX4_bestSize_0 : List UInt8 := [42, 3, 181, 0, 54, 3, 60, 4, 61, 28, 8, 162, 0, 34, 42, 17, 0, 167, 28, 182, 0, 164, 42]
abbrev dktX4_bestSize_0 : List UInt8 := dkwX4_bestSize_0 ++ dktX4_bestSize_1
theorem dksX4_bestSize_0 : cX4_bestSize.data.toList.drop 0 = dktX4_bestSize_0 := by decide +kernel
theorem dksX4_bestSize_1 : cX4_bestSize.data.toList.drop 23 = dktX4_bestSize_1 := dk_seg dksX4_bestSize_0 23 rfl rfl
theorem dksX4_bestSize_2 : cX4_bestSize.data.toList.drop 46 = dktX4_bestSize_2 := dk_seg dksX4_bestSize_1 23 rfl rfl
theorem dX4_bestSize_0 : decode cX4_bestSize 0 = .ok (.aload_n 0, 1) := dk_42 (dk_at dksX4_bestSize_0 0 rfl rfl)
theorem dX4_bestSize_1 : decode cX4_bestSize 1 = .ok (.iconst 0, 1) := dk_3 (dk_at dksX4_bestSize_0 1 rfl rfl)
theorem dX4_bestSize_2 : decode cX4_bestSize 2 = .ok (.putfield 54, 3) := dk_181 0 54 (dk_at dksX4_bestSize_0 2 rfl rfl)
theorem dX4_bestSize_5 : decode cX4_bestSize 5 = .ok (.iconst 0, 1) := dk_3 (dk_at dksX4_bestSize_0 5 rfl rfl)
theorem dX4_bestSize_6 : decode cX4_bestSize 6 = .ok (.istore_n 1, 1) := dk_60 (dk_at dksX4_bestSize_0 6 rfl rfl)
theorem dX4_bestSize_7 : decode cX4_bestSize 7 = .ok (.iconst 1, 1) := dk_4 (dk_at dksX4_bestSize_0 7 rfl rfl)
theorem dX4_bestSize_8 : decode cX4_bestSize 8 = .ok (.istore_n 2, 1) := dk_61 (dk_at dksX4_bestSize_0 8 rfl rfl)
theorem dX4_bestSize_9 : decode cX4_bestSize 9 = .ok (.iload_n 2, 1) := dk_28 (dk_at dksX4_bestSize_0 9 rfl rfl)
theorem dX4_bestSize_10 : decode cX4_bestSize 10 = .ok (.iconst 5, 1) := dk_8 (dk_at dksX4_bestSize_0 10 rfl rfl)
theorem dX4_bestSize_11 : decode cX4_bestSize 11 = .ok (.if_icmp .ge 34, 3) := dk_162 0 34 (dk_at dksX4_bestSize_0 11 rfl rfl)
theorem dX4_bestSize_14 : decode cX4_bestSize 14 = .ok (.aload_n 0, 1) := dk_42 (dk_at dksX4_bestSize_0 14 rfl rfl)
theorem dX4_bestSize_15 : decode cX4_bestSize 15 = .ok (.sipush 167, 3) := dk_17 0 167 (dk_at dksX4_bestSize_0 15 rfl rfl)
theorem dX4_bestSize_18 : decode cX4_bestSize 18 = .ok (.iload_n 2, 1) := dk_28 (dk_at dksX4_bestSize_0 18 rfl rfl)
theorem dX4_bestSize_19 : decode cX4_bestSize 19 = .ok (.invokevirtual 164, 3) := dk_182 0 164 (dk_at dksX4_bestSize_0 19 rfl rfl)
theorem dX4_bestSize_22 : decode cX4_bestSize 22 = .ok (.aload_n 0, 1) := dk_42 (dk_at dksX4_bestSize_0 22 rfl rfl)
theorem dX4_bestSize_23 : decode cX4_bestSize 23 = .ok (.sipush 167, 3) := dk_17 0 167 (dk_at dksX4_bestSize_1 0 rfl rfl)
theorem dX4_bestSize_26 : decode cX4_bestSize 26 = .ok (.iload_n 1, 1) := dk_27 (dk_at dksX4_bestSize_1 3 rfl rfl)
theorem dX4_bestSize_27 : decode cX4_bestSize 27 = .ok (.invokevirtual 164, 3) := dk_182 0 164 (dk_at dksX4_bestSize_1 4 rfl rfl)
theorem dX4_bestSize_30 : decode cX4_bestSize 30 = .ok (.if_icmp .le 7, 3) := dk_164 0 7 (dk_at dksX4_bestSize_1 7 rfl rfl)
theorem dX4_bestSize_33 : decode cX4_bestSize 33 = .ok (.iload_n 2, 1) := dk_28 (dk_at dksX4_bestSize_1 10 rfl rfl)
theorem dX4_bestSize_34 : decode cX4_bestSize 34 = .ok (.goto 4, 3) := dk_167 0 4 (dk_at dksX4_bestSize_1 11 rfl rfl)
theorem dX4_bestSize_37 : decode cX4_bestSize 37 = .ok (.iload_n 1, 1) := dk_27 (dk_at dksX4_bestSize_1 14 rfl rfl)
theorem dX4_bestSize_38 : decode cX4_bestSize 38 = .ok (.istore_n 1, 1) := dk_60 (dk_at dksX4_bestSize_1 15 rfl rfl)
theorem dX4_bestSize_39 : decode cX4_bestSize 39 = .ok (.iinc 2 1, 3) := dk_132 2 1 (dk_at dksX4_bestSize_1 16 rfl rfl)
theorem dX4_bestSize_42 : decode cX4_bestSize 42 = .ok (.goto (-33), 3) := dk_167 255 223 (dk_at dksX4_bestSize_1 19 rfl rfl)
theorem dX4_bestSize_45 : decode cX4_bestSize 45 = .ok (.aload_n 0, 1) := dk_42 (dk_at dksX4_bestSize_1 22 rfl rfl)
theorem dX4_bestSize_46 : decode cX4_bestSize 46 = .ok (.sipush 167, 3) := dk_17 0 167 (dk_at dksX4_bestSize_2 0 rfl rfl)
theorem dX4_bestSize_49 : decode cX4_bestSize 49 = .ok (.iload_n 1, 1) := dk_27 (dk_at dksX4_bestSize_2 3 rfl rfl)
theorem dX4_bestSize_50 : decode cX4_bestSize 50 = .ok (.invokevirtual 164, 3) := dk_182 0 164 (dk_at dksX4_bestSize_2 4 rfl rfl)
theorem dX4_bestSize_53 : decode cX4_bestSize 53 = .ok (.ifCond .ne 11, 3) := dk_154 0 11 (dk_at dksX4_bestSize_2 7 rfl rfl)
theorem dX4_bestSize_56 : decode cX4_bestSize 56 = .ok (.aload_n 0, 1) := dk_42 (dk_at dksX4_bestSize_2 10 rfl rfl)
theorem dX4_bestSize_57 : decode cX4_bestSize 57 = .ok (.iconst 1, 1) := dk_4 (dk_at dksX4_bestSize_2 11 rfl rfl)
theorem dX4_bestSize_58 : decode cX4_bestSize 58 = .ok (.invokevirtual 60, 3) := dk_182 0 60 (dk_at dksX4_bestSize_2 12 rfl rfl)
theorem dX4_bestSize_61 : decode cX4_bestSize 61 = .ok (.goto 4, 3) := dk_167 0 4 (dk_at dksX4_bestSize_2 15 rfl rfl)
theorem dX4_bestSize_64 : decode cX4_bestSize 64 = .ok (.iload_n 1, 1) := dk_27 (dk_at dksX4_bestSize_2 18 rfl rfl)
theorem dX4_bestSize_65 : decode cX4_bestSize 65 = .ok (.ireturn, 1) := dk_172 (dk_at dksX4_bestSize_2 19 rfl rfl)
abbrev cX4_matFor : ByteArray := prog_17_method_49_code
def yX4_matFor : MethodName := ⟨RX4, "matFor", "(I)I"⟩
def dkwX4_matFor_2 : List UInt8 := [167, 255, 232, 42, 5, 182, 0, 60, 172]
abbrev dktX4_matFor_2 : List UInt8 := dkwX4_matFor_2 ++ []
def dkwX4_matFor_1 : List UInt8 := [180, 0, 9, 4, 46, 162, 0, 20, 42, 27, 28, 182, 0, 140, 154, 0, 5, 28, 172, 132, 2, 1]
abbrev dktX4_matFor_1 : List UInt8 := dkwX4_matFor_1 ++ dktX4_matFor_2
def dkwX4_matFor_0 : List UInt8 := [42, 3, 181, 0, 54, 42, 27, 182, 0, 137, 154, 0, 9, 42, 4, 182, 0, 60, 172, 3, 61, 28, 42]
abbrev dktX4_matFor_0 : List UInt8 := dkwX4_matFor_0 ++ dktX4_matFor_1
theorem dksX4_matFor_0 : cX4_matFor.data.toList.drop 0 = dktX4_matFor_0 := by decide +kernel
theorem dksX4_matFor_1 : cX4_matFor.data.toList.drop 23 = dktX4_matFor_1 := dk_seg dksX4_matFor_0 23 rfl rfl
theorem dksX4_matFor_2 : cX4_matFor.data.toList.drop 45 = dktX4_matFor_2 := dk_seg dksX4_matFor_1 22 rfl rfl
theorem dX4_matFor_0 : decode cX4_matFor 0 = .ok (.aload_n 0, 1) := dk_42 (dk_at dksX4_matFor_0 0 rfl rfl)
theorem dX4_matFor_1 : decode cX4_matFor 1 = .ok (.iconst 0, 1) := dk_3 (dk_at dksX4_matFor_0 1 rfl rfl)
theorem dX4_matFor_2 : decode cX4_matFor 2 = .ok (.putfield 54, 3) := dk_181 0 54 (dk_at dksX4_matFor_0 2 rfl rfl)
theorem dX4_matFor_5 : decode cX4_matFor 5 = .ok (.aload_n 0, 1) := dk_42 (dk_at dksX4_matFor_0 5 rfl rfl)
theorem dX4_matFor_6 : decode cX4_matFor 6 = .ok (.iload_n 1, 1) := dk_27 (dk_at dksX4_matFor_0 6 rfl rfl)
theorem dX4_matFor_7 : decode cX4_matFor 7 = .ok (.invokevirtual 137, 3) := dk_182 0 137 (dk_at dksX4_matFor_0 7 rfl rfl)
theorem dX4_matFor_10 : decode cX4_matFor 10 = .ok (.ifCond .ne 9, 3) := dk_154 0 9 (dk_at dksX4_matFor_0 10 rfl rfl)
theorem dX4_matFor_13 : decode cX4_matFor 13 = .ok (.aload_n 0, 1) := dk_42 (dk_at dksX4_matFor_0 13 rfl rfl)
theorem dX4_matFor_14 : decode cX4_matFor 14 = .ok (.iconst 1, 1) := dk_4 (dk_at dksX4_matFor_0 14 rfl rfl)
theorem dX4_matFor_15 : decode cX4_matFor 15 = .ok (.invokevirtual 60, 3) := dk_182 0 60 (dk_at dksX4_matFor_0 15 rfl rfl)
theorem dX4_matFor_18 : decode cX4_matFor 18 = .ok (.ireturn, 1) := dk_172 (dk_at dksX4_matFor_0 18 rfl rfl)
theorem dX4_matFor_19 : decode cX4_matFor 19 = .ok (.iconst 0, 1) := dk_3 (dk_at dksX4_matFor_0 19 rfl rfl)
theorem dX4_matFor_20 : decode cX4_matFor 20 = .ok (.istore_n 2, 1) := dk_61 (dk_at dksX4_matFor_0 20 rfl rfl)
theorem dX4_matFor_21 : decode cX4_matFor 21 = .ok (.iload_n 2, 1) := dk_28 (dk_at dksX4_matFor_0 21 rfl rfl)
theorem dX4_matFor_22 : decode cX4_matFor 22 = .ok (.aload_n 0, 1) := dk_42 (dk_at dksX4_matFor_0 22 rfl rfl)
theorem dX4_matFor_23 : decode cX4_matFor 23 = .ok (.getfield 9, 3) := dk_180 0 9 (dk_at dksX4_matFor_1 0 rfl rfl)
theorem dX4_matFor_26 : decode cX4_matFor 26 = .ok (.iconst 1, 1) := dk_4 (dk_at dksX4_matFor_1 3 rfl rfl)
theorem dX4_matFor_27 : decode cX4_matFor 27 = .ok (.iaload, 1) := dk_46 (dk_at dksX4_matFor_1 4 rfl rfl)
theorem dX4_matFor_28 : decode cX4_matFor 28 = .ok (.if_icmp .ge 20, 3) := dk_162 0 20 (dk_at dksX4_matFor_1 5 rfl rfl)
theorem dX4_matFor_31 : decode cX4_matFor 31 = .ok (.aload_n 0, 1) := dk_42 (dk_at dksX4_matFor_1 8 rfl rfl)
theorem dX4_matFor_32 : decode cX4_matFor 32 = .ok (.iload_n 1, 1) := dk_27 (dk_at dksX4_matFor_1 9 rfl rfl)
theorem dX4_matFor_33 : decode cX4_matFor 33 = .ok (.iload_n 2, 1) := dk_28 (dk_at dksX4_matFor_1 10 rfl rfl)
theorem dX4_matFor_34 : decode cX4_matFor 34 = .ok (.invokevirtual 140, 3) := dk_182 0 140 (dk_at dksX4_matFor_1 11 rfl rfl)
theorem dX4_matFor_37 : decode cX4_matFor 37 = .ok (.ifCond .ne 5, 3) := dk_154 0 5 (dk_at dksX4_matFor_1 14 rfl rfl)
theorem dX4_matFor_40 : decode cX4_matFor 40 = .ok (.iload_n 2, 1) := dk_28 (dk_at dksX4_matFor_1 17 rfl rfl)
theorem dX4_matFor_41 : decode cX4_matFor 41 = .ok (.ireturn, 1) := dk_172 (dk_at dksX4_matFor_1 18 rfl rfl)
theorem dX4_matFor_42 : decode cX4_matFor 42 = .ok (.iinc 2 1, 3) := dk_132 2 1 (dk_at dksX4_matFor_1 19 rfl rfl)
theorem dX4_matFor_45 : decode cX4_matFor 45 = .ok (.goto (-24), 3) := dk_167 255 232 (dk_at dksX4_matFor_2 0 rfl rfl)
theorem dX4_matFor_48 : decode cX4_matFor 48 = .ok (.aload_n 0, 1) := dk_42 (dk_at dksX4_matFor_2 3 rfl rfl)
theorem dX4_matFor_49 : decode cX4_matFor 49 = .ok (.iconst 2, 1) := dk_5 (dk_at dksX4_matFor_2 4 rfl rfl)
theorem dX4_matFor_50 : decode cX4_matFor 50 = .ok (.invokevirtual 60, 3) := dk_182 0 60 (dk_at dksX4_matFor_2 5 rfl rfl)
theorem dX4_matFor_53 : decode cX4_matFor 53 = .ok (.ireturn, 1) := dk_172 (dk_at dksX4_matFor_2 8 rfl rfl)
abbrev cX4_guard : ByteArray := prog_17_method_50_code
def yX4_guard : MethodName := ⟨RX4, "guard", "()I"⟩
def dkwX4_guard_2 : List UInt8 := [79, 42, 42, 180, 0, 9, 6, 46, 4, 100, 182, 0, 85, 172]
abbrev dktX4_guard_2 : List UInt8 := dkwX4_guard_2 ++ []
def dkwX4_guard_1 : List UInt8 := [180, 0, 9, 17, 0, 182, 42, 180, 0, 9, 6, 46, 96, 2, 79, 42, 180, 0, 9, 6, 92, 46, 4, 96]
abbrev dktX4_guard_1 : List UInt8 := dkwX4_guard_1 ++ dktX4_guard_2
def dkwX4_guard_0 : List UInt8 := [42, 182, 0, 79, 42, 180, 0, 9, 6, 46, 7, 160, 0, 11, 42, 4, 4, 7, 182, 0, 64, 172, 42]
abbrev dktX4_guard_0 : List UInt8 := dkwX4_guard_0 ++ dktX4_guard_1
theorem dksX4_guard_0 : cX4_guard.data.toList.drop 0 = dktX4_guard_0 := by decide +kernel
theorem dksX4_guard_1 : cX4_guard.data.toList.drop 23 = dktX4_guard_1 := dk_seg dksX4_guard_0 23 rfl rfl
theorem dksX4_guard_2 : cX4_guard.data.toList.drop 47 = dktX4_guard_2 := dk_seg dksX4_guard_1 24 rfl rfl
theorem dX4_guard_0 : decode cX4_guard 0 = .ok (.aload_n 0, 1) := dk_42 (dk_at dksX4_guard_0 0 rfl rfl)
theorem dX4_guard_1 : decode cX4_guard 1 = .ok (.invokevirtual 79, 3) := dk_182 0 79 (dk_at dksX4_guard_0 1 rfl rfl)
theorem dX4_guard_4 : decode cX4_guard 4 = .ok (.aload_n 0, 1) := dk_42 (dk_at dksX4_guard_0 4 rfl rfl)
theorem dX4_guard_5 : decode cX4_guard 5 = .ok (.getfield 9, 3) := dk_180 0 9 (dk_at dksX4_guard_0 5 rfl rfl)
theorem dX4_guard_8 : decode cX4_guard 8 = .ok (.iconst 3, 1) := dk_6 (dk_at dksX4_guard_0 8 rfl rfl)
theorem dX4_guard_9 : decode cX4_guard 9 = .ok (.iaload, 1) := dk_46 (dk_at dksX4_guard_0 9 rfl rfl)
theorem dX4_guard_10 : decode cX4_guard 10 = .ok (.iconst 4, 1) := dk_7 (dk_at dksX4_guard_0 10 rfl rfl)
theorem dX4_guard_11 : decode cX4_guard 11 = .ok (.if_icmp .ne 11, 3) := dk_160 0 11 (dk_at dksX4_guard_0 11 rfl rfl)
theorem dX4_guard_14 : decode cX4_guard 14 = .ok (.aload_n 0, 1) := dk_42 (dk_at dksX4_guard_0 14 rfl rfl)
theorem dX4_guard_15 : decode cX4_guard 15 = .ok (.iconst 1, 1) := dk_4 (dk_at dksX4_guard_0 15 rfl rfl)
theorem dX4_guard_16 : decode cX4_guard 16 = .ok (.iconst 1, 1) := dk_4 (dk_at dksX4_guard_0 16 rfl rfl)
theorem dX4_guard_17 : decode cX4_guard 17 = .ok (.iconst 4, 1) := dk_7 (dk_at dksX4_guard_0 17 rfl rfl)
theorem dX4_guard_18 : decode cX4_guard 18 = .ok (.invokevirtual 64, 3) := dk_182 0 64 (dk_at dksX4_guard_0 18 rfl rfl)
theorem dX4_guard_21 : decode cX4_guard 21 = .ok (.ireturn, 1) := dk_172 (dk_at dksX4_guard_0 21 rfl rfl)
theorem dX4_guard_22 : decode cX4_guard 22 = .ok (.aload_n 0, 1) := dk_42 (dk_at dksX4_guard_0 22 rfl rfl)
theorem dX4_guard_23 : decode cX4_guard 23 = .ok (.getfield 9, 3) := dk_180 0 9 (dk_at dksX4_guard_1 0 rfl rfl)
theorem dX4_guard_26 : decode cX4_guard 26 = .ok (.sipush 182, 3) := dk_17 0 182 (dk_at dksX4_guard_1 3 rfl rfl)
theorem dX4_guard_29 : decode cX4_guard 29 = .ok (.aload_n 0, 1) := dk_42 (dk_at dksX4_guard_1 6 rfl rfl)
theorem dX4_guard_30 : decode cX4_guard 30 = .ok (.getfield 9, 3) := dk_180 0 9 (dk_at dksX4_guard_1 7 rfl rfl)
theorem dX4_guard_33 : decode cX4_guard 33 = .ok (.iconst 3, 1) := dk_6 (dk_at dksX4_guard_1 10 rfl rfl)
theorem dX4_guard_34 : decode cX4_guard 34 = .ok (.iaload, 1) := dk_46 (dk_at dksX4_guard_1 11 rfl rfl)
theorem dX4_guard_35 : decode cX4_guard 35 = .ok (.iadd, 1) := dk_96 (dk_at dksX4_guard_1 12 rfl rfl)
theorem dX4_guard_36 : decode cX4_guard 36 = .ok (.iconst (-1), 1) := dk_2 (dk_at dksX4_guard_1 13 rfl rfl)
theorem dX4_guard_37 : decode cX4_guard 37 = .ok (.iastore, 1) := dk_79 (dk_at dksX4_guard_1 14 rfl rfl)
theorem dX4_guard_38 : decode cX4_guard 38 = .ok (.aload_n 0, 1) := dk_42 (dk_at dksX4_guard_1 15 rfl rfl)
theorem dX4_guard_39 : decode cX4_guard 39 = .ok (.getfield 9, 3) := dk_180 0 9 (dk_at dksX4_guard_1 16 rfl rfl)
theorem dX4_guard_42 : decode cX4_guard 42 = .ok (.iconst 3, 1) := dk_6 (dk_at dksX4_guard_1 19 rfl rfl)
theorem dX4_guard_43 : decode cX4_guard 43 = .ok (.dup2, 1) := dk_92 (dk_at dksX4_guard_1 20 rfl rfl)
theorem dX4_guard_44 : decode cX4_guard 44 = .ok (.iaload, 1) := dk_46 (dk_at dksX4_guard_1 21 rfl rfl)
theorem dX4_guard_45 : decode cX4_guard 45 = .ok (.iconst 1, 1) := dk_4 (dk_at dksX4_guard_1 22 rfl rfl)
theorem dX4_guard_46 : decode cX4_guard 46 = .ok (.iadd, 1) := dk_96 (dk_at dksX4_guard_1 23 rfl rfl)
theorem dX4_guard_47 : decode cX4_guard 47 = .ok (.iastore, 1) := dk_79 (dk_at dksX4_guard_2 0 rfl rfl)
theorem dX4_guard_48 : decode cX4_guard 48 = .ok (.aload_n 0, 1) := dk_42 (dk_at dksX4_guard_2 1 rfl rfl)
theorem dX4_guard_49 : decode cX4_guard 49 = .ok (.aload_n 0, 1) := dk_42 (dk_at dksX4_guard_2 2 rfl rfl)
theorem dX4_guard_50 : decode cX4_guard 50 = .ok (.getfield 9, 3) := dk_180 0 9 (dk_at dksX4_guard_2 3 rfl rfl)
theorem dX4_guard_53 : decode cX4_guard 53 = .ok (.iconst 3, 1) := dk_6 (dk_at dksX4_guard_2 6 rfl rfl)
theorem dX4_guard_54 : decode cX4_guard 54 = .ok (.iaload, 1) := dk_46 (dk_at dksX4_guard_2 7 rfl rfl)
theorem dX4_guard_55 : decode cX4_guard 55 = .ok (.iconst 1, 1) := dk_4 (dk_at dksX4_guard_2 8 rfl rfl)
theorem dX4_guard_56 : decode cX4_guard 56 = .ok (.isub, 1) := dk_100 (dk_at dksX4_guard_2 9 rfl rfl)
theorem dX4_guard_57 : decode cX4_guard 57 = .ok (.invokevirtual 85, 3) := dk_182 0 85 (dk_at dksX4_guard_2 10 rfl rfl)
theorem dX4_guard_60 : decode cX4_guard 60 = .ok (.ireturn, 1) := dk_172 (dk_at dksX4_guard_2 13 rfl rfl)
abbrev cX4_place : ByteArray := prog_17_method_52_code
def yX4_place : MethodName := ⟨RX4, "place", "(II)I"⟩
def dkwX4_place_0 : List UInt8 := [42, 182, 0, 79, 42, 42, 27, 28, 182, 0, 175, 182, 0, 85, 172]
abbrev dktX4_place_0 : List UInt8 := dkwX4_place_0 ++ []
theorem dksX4_place_0 : cX4_place.data.toList.drop 0 = dktX4_place_0 := by decide +kernel
theorem dX4_place_0 : decode cX4_place 0 = .ok (.aload_n 0, 1) := dk_42 (dk_at dksX4_place_0 0 rfl rfl)
theorem dX4_place_1 : decode cX4_place 1 = .ok (.invokevirtual 79, 3) := dk_182 0 79 (dk_at dksX4_place_0 1 rfl rfl)
theorem dX4_place_4 : decode cX4_place 4 = .ok (.aload_n 0, 1) := dk_42 (dk_at dksX4_place_0 4 rfl rfl)
theorem dX4_place_5 : decode cX4_place 5 = .ok (.aload_n 0, 1) := dk_42 (dk_at dksX4_place_0 5 rfl rfl)
theorem dX4_place_6 : decode cX4_place 6 = .ok (.iload_n 1, 1) := dk_27 (dk_at dksX4_place_0 6 rfl rfl)
theorem dX4_place_7 : decode cX4_place 7 = .ok (.iload_n 2, 1) := dk_28 (dk_at dksX4_place_0 7 rfl rfl)
theorem dX4_place_8 : decode cX4_place 8 = .ok (.invokevirtual 175, 3) := dk_182 0 175 (dk_at dksX4_place_0 8 rfl rfl)
theorem dX4_place_11 : decode cX4_place 11 = .ok (.invokevirtual 85, 3) := dk_182 0 85 (dk_at dksX4_place_0 11 rfl rfl)
theorem dX4_place_14 : decode cX4_place 14 = .ok (.ireturn, 1) := dk_172 (dk_at dksX4_place_0 14 rfl rfl)
abbrev cX4_placeIt : ByteArray := prog_17_method_51_code
def yX4_placeIt : MethodName := ⟨RX4, "placeIt", "(II)I"⟩
def dkwX4_placeIt_2 : List UInt8 := [17, 0, 182, 27, 96, 28, 79, 29, 172]
abbrev dktX4_placeIt_2 : List UInt8 := dkwX4_placeIt_2 ++ []
def dkwX4_placeIt_1 : List UInt8 := [182, 0, 124, 62, 29, 2, 159, 0, 14, 42, 180, 0, 9, 17, 0, 182, 29, 96, 2, 79, 42, 180, 0, 9]
abbrev dktX4_placeIt_1 : List UInt8 := dkwX4_placeIt_1 ++ dktX4_placeIt_2
def dkwX4_placeIt_0 : List UInt8 := [42, 27, 182, 0, 172, 153, 0, 11, 42, 28, 182, 0, 98, 154, 0, 9, 42, 4, 182, 0, 60, 172, 42, 28]
abbrev dktX4_placeIt_0 : List UInt8 := dkwX4_placeIt_0 ++ dktX4_placeIt_1
theorem dksX4_placeIt_0 : cX4_placeIt.data.toList.drop 0 = dktX4_placeIt_0 := by decide +kernel
theorem dksX4_placeIt_1 : cX4_placeIt.data.toList.drop 24 = dktX4_placeIt_1 := dk_seg dksX4_placeIt_0 24 rfl rfl
theorem dksX4_placeIt_2 : cX4_placeIt.data.toList.drop 48 = dktX4_placeIt_2 := dk_seg dksX4_placeIt_1 24 rfl rfl
theorem dX4_placeIt_0 : decode cX4_placeIt 0 = .ok (.aload_n 0, 1) := dk_42 (dk_at dksX4_placeIt_0 0 rfl rfl)
theorem dX4_placeIt_1 : decode cX4_placeIt 1 = .ok (.iload_n 1, 1) := dk_27 (dk_at dksX4_placeIt_0 1 rfl rfl)
theorem dX4_placeIt_2 : decode cX4_placeIt 2 = .ok (.invokevirtual 172, 3) := dk_182 0 172 (dk_at dksX4_placeIt_0 2 rfl rfl)
theorem dX4_placeIt_5 : decode cX4_placeIt 5 = .ok (.ifCond .eq 11, 3) := dk_153 0 11 (dk_at dksX4_placeIt_0 5 rfl rfl)
theorem dX4_placeIt_8 : decode cX4_placeIt 8 = .ok (.aload_n 0, 1) := dk_42 (dk_at dksX4_placeIt_0 8 rfl rfl)
theorem dX4_placeIt_9 : decode cX4_placeIt 9 = .ok (.iload_n 2, 1) := dk_28 (dk_at dksX4_placeIt_0 9 rfl rfl)
theorem dX4_placeIt_10 : decode cX4_placeIt 10 = .ok (.invokevirtual 98, 3) := dk_182 0 98 (dk_at dksX4_placeIt_0 10 rfl rfl)
theorem dX4_placeIt_13 : decode cX4_placeIt 13 = .ok (.ifCond .ne 9, 3) := dk_154 0 9 (dk_at dksX4_placeIt_0 13 rfl rfl)
theorem dX4_placeIt_16 : decode cX4_placeIt 16 = .ok (.aload_n 0, 1) := dk_42 (dk_at dksX4_placeIt_0 16 rfl rfl)
theorem dX4_placeIt_17 : decode cX4_placeIt 17 = .ok (.iconst 1, 1) := dk_4 (dk_at dksX4_placeIt_0 17 rfl rfl)
theorem dX4_placeIt_18 : decode cX4_placeIt 18 = .ok (.invokevirtual 60, 3) := dk_182 0 60 (dk_at dksX4_placeIt_0 18 rfl rfl)
theorem dX4_placeIt_21 : decode cX4_placeIt 21 = .ok (.ireturn, 1) := dk_172 (dk_at dksX4_placeIt_0 21 rfl rfl)
theorem dX4_placeIt_22 : decode cX4_placeIt 22 = .ok (.aload_n 0, 1) := dk_42 (dk_at dksX4_placeIt_0 22 rfl rfl)
theorem dX4_placeIt_23 : decode cX4_placeIt 23 = .ok (.iload_n 2, 1) := dk_28 (dk_at dksX4_placeIt_0 23 rfl rfl)
theorem dX4_placeIt_24 : decode cX4_placeIt 24 = .ok (.invokevirtual 124, 3) := dk_182 0 124 (dk_at dksX4_placeIt_1 0 rfl rfl)
theorem dX4_placeIt_27 : decode cX4_placeIt 27 = .ok (.istore_n 3, 1) := dk_62 (dk_at dksX4_placeIt_1 3 rfl rfl)
theorem dX4_placeIt_28 : decode cX4_placeIt 28 = .ok (.iload_n 3, 1) := dk_29 (dk_at dksX4_placeIt_1 4 rfl rfl)
theorem dX4_placeIt_29 : decode cX4_placeIt 29 = .ok (.iconst (-1), 1) := dk_2 (dk_at dksX4_placeIt_1 5 rfl rfl)
theorem dX4_placeIt_30 : decode cX4_placeIt 30 = .ok (.if_icmp .eq 14, 3) := dk_159 0 14 (dk_at dksX4_placeIt_1 6 rfl rfl)
theorem dX4_placeIt_33 : decode cX4_placeIt 33 = .ok (.aload_n 0, 1) := dk_42 (dk_at dksX4_placeIt_1 9 rfl rfl)
theorem dX4_placeIt_34 : decode cX4_placeIt 34 = .ok (.getfield 9, 3) := dk_180 0 9 (dk_at dksX4_placeIt_1 10 rfl rfl)
theorem dX4_placeIt_37 : decode cX4_placeIt 37 = .ok (.sipush 182, 3) := dk_17 0 182 (dk_at dksX4_placeIt_1 13 rfl rfl)
theorem dX4_placeIt_40 : decode cX4_placeIt 40 = .ok (.iload_n 3, 1) := dk_29 (dk_at dksX4_placeIt_1 16 rfl rfl)
theorem dX4_placeIt_41 : decode cX4_placeIt 41 = .ok (.iadd, 1) := dk_96 (dk_at dksX4_placeIt_1 17 rfl rfl)
theorem dX4_placeIt_42 : decode cX4_placeIt 42 = .ok (.iconst (-1), 1) := dk_2 (dk_at dksX4_placeIt_1 18 rfl rfl)
theorem dX4_placeIt_43 : decode cX4_placeIt 43 = .ok (.iastore, 1) := dk_79 (dk_at dksX4_placeIt_1 19 rfl rfl)
theorem dX4_placeIt_44 : decode cX4_placeIt 44 = .ok (.aload_n 0, 1) := dk_42 (dk_at dksX4_placeIt_1 20 rfl rfl)
theorem dX4_placeIt_45 : decode cX4_placeIt 45 = .ok (.getfield 9, 3) := dk_180 0 9 (dk_at dksX4_placeIt_1 21 rfl rfl)
theorem dX4_placeIt_48 : decode cX4_placeIt 48 = .ok (.sipush 182, 3) := dk_17 0 182 (dk_at dksX4_placeIt_2 0 rfl rfl)
theorem dX4_placeIt_51 : decode cX4_placeIt 51 = .ok (.iload_n 1, 1) := dk_27 (dk_at dksX4_placeIt_2 3 rfl rfl)
theorem dX4_placeIt_52 : decode cX4_placeIt 52 = .ok (.iadd, 1) := dk_96 (dk_at dksX4_placeIt_2 4 rfl rfl)
theorem dX4_placeIt_53 : decode cX4_placeIt 53 = .ok (.iload_n 2, 1) := dk_28 (dk_at dksX4_placeIt_2 5 rfl rfl)
theorem dX4_placeIt_54 : decode cX4_placeIt 54 = .ok (.iastore, 1) := dk_79 (dk_at dksX4_placeIt_2 6 rfl rfl)
theorem dX4_placeIt_55 : decode cX4_placeIt 55 = .ok (.iload_n 3, 1) := dk_29 (dk_at dksX4_placeIt_2 7 rfl rfl)
theorem dX4_placeIt_56 : decode cX4_placeIt 56 = .ok (.ireturn, 1) := dk_172 (dk_at dksX4_placeIt_2 8 rfl rfl)
abbrev cX4_isGuard : ByteArray := prog_17_method_14_code
def yX4_isGuard : MethodName := ⟨RX4, "isGuard", "(I)Z"⟩
def dkwX4_isGuard_0 : List UInt8 := [27, 133, 9, 42, 180, 0, 9, 6, 46, 4, 100, 133, 184, 0, 71, 172]
abbrev dktX4_isGuard_0 : List UInt8 := dkwX4_isGuard_0 ++ []
theorem dksX4_isGuard_0 : cX4_isGuard.data.toList.drop 0 = dktX4_isGuard_0 := by decide +kernel
theorem dX4_isGuard_0 : decode cX4_isGuard 0 = .ok (.iload_n 1, 1) := dk_27 (dk_at dksX4_isGuard_0 0 rfl rfl)
theorem dX4_isGuard_1 : decode cX4_isGuard 1 = .ok (.i2l, 1) := dk_133 (dk_at dksX4_isGuard_0 1 rfl rfl)
theorem dX4_isGuard_2 : decode cX4_isGuard 2 = .ok (.lconst 0, 1) := dk_9 (dk_at dksX4_isGuard_0 2 rfl rfl)
theorem dX4_isGuard_3 : decode cX4_isGuard 3 = .ok (.aload_n 0, 1) := dk_42 (dk_at dksX4_isGuard_0 3 rfl rfl)
theorem dX4_isGuard_4 : decode cX4_isGuard 4 = .ok (.getfield 9, 3) := dk_180 0 9 (dk_at dksX4_isGuard_0 4 rfl rfl)
theorem dX4_isGuard_7 : decode cX4_isGuard 7 = .ok (.iconst 3, 1) := dk_6 (dk_at dksX4_isGuard_0 7 rfl rfl)
theorem dX4_isGuard_8 : decode cX4_isGuard 8 = .ok (.iaload, 1) := dk_46 (dk_at dksX4_isGuard_0 8 rfl rfl)
theorem dX4_isGuard_9 : decode cX4_isGuard 9 = .ok (.iconst 1, 1) := dk_4 (dk_at dksX4_isGuard_0 9 rfl rfl)
theorem dX4_isGuard_10 : decode cX4_isGuard 10 = .ok (.isub, 1) := dk_100 (dk_at dksX4_isGuard_0 10 rfl rfl)
theorem dX4_isGuard_11 : decode cX4_isGuard 11 = .ok (.i2l, 1) := dk_133 (dk_at dksX4_isGuard_0 11 rfl rfl)
theorem dX4_isGuard_12 : decode cX4_isGuard 12 = .ok (.invokestatic 71, 3) := dk_184 0 71 (dk_at dksX4_isGuard_0 12 rfl rfl)
theorem dX4_isGuard_15 : decode cX4_isGuard 15 = .ok (.ireturn, 1) := dk_172 (dk_at dksX4_isGuard_0 15 rfl rfl)
abbrev cX4_at : ByteArray := prog_17_method_53_code
def yX4_at : MethodName := ⟨RX4, "at", "(I)I"⟩
def dkwX4_at_2 : List UInt8 := [17, 0, 182, 27, 96, 46, 172]
abbrev dktX4_at_2 : List UInt8 := dkwX4_at_2 ++ []
def dkwX4_at_1 : List UInt8 := [17, 0, 182, 27, 96, 46, 2, 160, 0, 11, 42, 5, 182, 0, 60, 167, 0, 13, 42, 180, 0, 9]
abbrev dktX4_at_1 : List UInt8 := dkwX4_at_1 ++ dktX4_at_2
def dkwX4_at_0 : List UInt8 := [42, 3, 181, 0, 54, 42, 27, 182, 0, 172, 154, 0, 9, 42, 4, 182, 0, 60, 172, 42, 180, 0, 9]
abbrev dktX4_at_0 : List UInt8 := dkwX4_at_0 ++ dktX4_at_1
theorem dksX4_at_0 : cX4_at.data.toList.drop 0 = dktX4_at_0 := by decide +kernel
theorem dksX4_at_1 : cX4_at.data.toList.drop 23 = dktX4_at_1 := dk_seg dksX4_at_0 23 rfl rfl
theorem dksX4_at_2 : cX4_at.data.toList.drop 45 = dktX4_at_2 := dk_seg dksX4_at_1 22 rfl rfl
theorem dX4_at_0 : decode cX4_at 0 = .ok (.aload_n 0, 1) := dk_42 (dk_at dksX4_at_0 0 rfl rfl)
theorem dX4_at_1 : decode cX4_at 1 = .ok (.iconst 0, 1) := dk_3 (dk_at dksX4_at_0 1 rfl rfl)
theorem dX4_at_2 : decode cX4_at 2 = .ok (.putfield 54, 3) := dk_181 0 54 (dk_at dksX4_at_0 2 rfl rfl)
theorem dX4_at_5 : decode cX4_at 5 = .ok (.aload_n 0, 1) := dk_42 (dk_at dksX4_at_0 5 rfl rfl)
theorem dX4_at_6 : decode cX4_at 6 = .ok (.iload_n 1, 1) := dk_27 (dk_at dksX4_at_0 6 rfl rfl)
theorem dX4_at_7 : decode cX4_at 7 = .ok (.invokevirtual 172, 3) := dk_182 0 172 (dk_at dksX4_at_0 7 rfl rfl)
theorem dX4_at_10 : decode cX4_at 10 = .ok (.ifCond .ne 9, 3) := dk_154 0 9 (dk_at dksX4_at_0 10 rfl rfl)
theorem dX4_at_13 : decode cX4_at 13 = .ok (.aload_n 0, 1) := dk_42 (dk_at dksX4_at_0 13 rfl rfl)
theorem dX4_at_14 : decode cX4_at 14 = .ok (.iconst 1, 1) := dk_4 (dk_at dksX4_at_0 14 rfl rfl)
theorem dX4_at_15 : decode cX4_at 15 = .ok (.invokevirtual 60, 3) := dk_182 0 60 (dk_at dksX4_at_0 15 rfl rfl)
theorem dX4_at_18 : decode cX4_at 18 = .ok (.ireturn, 1) := dk_172 (dk_at dksX4_at_0 18 rfl rfl)
theorem dX4_at_19 : decode cX4_at 19 = .ok (.aload_n 0, 1) := dk_42 (dk_at dksX4_at_0 19 rfl rfl)
theorem dX4_at_20 : decode cX4_at 20 = .ok (.getfield 9, 3) := dk_180 0 9 (dk_at dksX4_at_0 20 rfl rfl)
theorem dX4_at_23 : decode cX4_at 23 = .ok (.sipush 182, 3) := dk_17 0 182 (dk_at dksX4_at_1 0 rfl rfl)
theorem dX4_at_26 : decode cX4_at 26 = .ok (.iload_n 1, 1) := dk_27 (dk_at dksX4_at_1 3 rfl rfl)
theorem dX4_at_27 : decode cX4_at 27 = .ok (.iadd, 1) := dk_96 (dk_at dksX4_at_1 4 rfl rfl)
theorem dX4_at_28 : decode cX4_at 28 = .ok (.iaload, 1) := dk_46 (dk_at dksX4_at_1 5 rfl rfl)
theorem dX4_at_29 : decode cX4_at 29 = .ok (.iconst (-1), 1) := dk_2 (dk_at dksX4_at_1 6 rfl rfl)
theorem dX4_at_30 : decode cX4_at 30 = .ok (.if_icmp .ne 11, 3) := dk_160 0 11 (dk_at dksX4_at_1 7 rfl rfl)
theorem dX4_at_33 : decode cX4_at 33 = .ok (.aload_n 0, 1) := dk_42 (dk_at dksX4_at_1 10 rfl rfl)
theorem dX4_at_34 : decode cX4_at 34 = .ok (.iconst 2, 1) := dk_5 (dk_at dksX4_at_1 11 rfl rfl)
theorem dX4_at_35 : decode cX4_at 35 = .ok (.invokevirtual 60, 3) := dk_182 0 60 (dk_at dksX4_at_1 12 rfl rfl)
theorem dX4_at_38 : decode cX4_at 38 = .ok (.goto 13, 3) := dk_167 0 13 (dk_at dksX4_at_1 15 rfl rfl)
theorem dX4_at_41 : decode cX4_at 41 = .ok (.aload_n 0, 1) := dk_42 (dk_at dksX4_at_1 18 rfl rfl)
theorem dX4_at_42 : decode cX4_at 42 = .ok (.getfield 9, 3) := dk_180 0 9 (dk_at dksX4_at_1 19 rfl rfl)
theorem dX4_at_45 : decode cX4_at 45 = .ok (.sipush 182, 3) := dk_17 0 182 (dk_at dksX4_at_2 0 rfl rfl)
theorem dX4_at_48 : decode cX4_at 48 = .ok (.iload_n 1, 1) := dk_27 (dk_at dksX4_at_2 3 rfl rfl)
theorem dX4_at_49 : decode cX4_at 49 = .ok (.iadd, 1) := dk_96 (dk_at dksX4_at_2 4 rfl rfl)
theorem dX4_at_50 : decode cX4_at 50 = .ok (.iaload, 1) := dk_46 (dk_at dksX4_at_2 5 rfl rfl)
theorem dX4_at_51 : decode cX4_at 51 = .ok (.ireturn, 1) := dk_172 (dk_at dksX4_at_2 6 rfl rfl)
abbrev cX4_book : ByteArray := prog_17_method_55_code
def yX4_book : MethodName := ⟨RX4, "book", "(IIII)I"⟩
def dkwX4_book_9 : List UInt8 := [4, 100, 182, 0, 85, 172]
abbrev dktX4_book_9 : List UInt8 := dkwX4_book_9 ++ []
def dkwX4_book_8 : List UInt8 := [21, 5, 8, 96, 21, 4, 79, 42, 180, 0, 9, 7, 92, 46, 4, 96, 79, 42, 42, 180, 0, 9, 7, 46]
abbrev dktX4_book_8 : List UInt8 := dkwX4_book_8 ++ dktX4_book_9
def dkwX4_book_7 : List UInt8 := [42, 180, 0, 9, 21, 5, 6, 96, 3, 79, 42, 180, 0, 9, 21, 5, 7, 96, 29, 79, 42, 180, 0, 9]
abbrev dktX4_book_7 : List UInt8 := dkwX4_book_7 ++ dktX4_book_8
def dkwX4_book_6 : List UInt8 := [21, 5, 27, 79, 42, 180, 0, 9, 21, 5, 4, 96, 28, 79, 42, 180, 0, 9, 21, 5, 5, 96, 3, 79]
abbrev dktX4_book_6 : List UInt8 := dkwX4_book_6 ++ dktX4_book_7
def dkwX4_book_5 : List UInt8 := [180, 0, 9, 3, 46, 182, 0, 64, 172, 42, 180, 0, 9, 7, 46, 184, 0, 178, 54, 5, 42, 180, 0, 9]
abbrev dktX4_book_5 : List UInt8 := dkwX4_book_5 ++ dktX4_book_6
def dkwX4_book_4 : List UInt8 := [5, 4, 16, 20, 182, 0, 64, 172, 27, 42, 180, 0, 9, 3, 46, 163, 0, 17, 42, 5, 16, 12, 42]
abbrev dktX4_book_4 : List UInt8 := dkwX4_book_4 ++ dktX4_book_5
def dkwX4_book_3 : List UInt8 := [160, 0, 12, 42, 5, 4, 16, 6, 182, 0, 64, 172, 42, 180, 0, 9, 7, 46, 16, 20, 160, 0, 12, 42]
abbrev dktX4_book_3 : List UInt8 := dkwX4_book_3 ++ dktX4_book_4
def dkwX4_book_2 : List UInt8 := [20, 0, 75, 184, 0, 71, 154, 0, 9, 42, 4, 182, 0, 60, 172, 42, 3, 182, 0, 183, 16, 6]
abbrev dktX4_book_2 : List UInt8 := dkwX4_book_2 ++ dktX4_book_3
def dkwX4_book_1 : List UInt8 := [184, 0, 71, 153, 0, 30, 29, 133, 20, 0, 127, 20, 0, 129, 184, 0, 71, 153, 0, 16, 21, 4, 133, 9]
abbrev dktX4_book_1 : List UInt8 := dkwX4_book_1 ++ dktX4_book_2
def dkwX4_book_0 : List UInt8 := [42, 182, 0, 79, 27, 133, 9, 20, 0, 181, 184, 0, 71, 153, 0, 42, 28, 133, 10, 20, 0, 170]
abbrev dktX4_book_0 : List UInt8 := dkwX4_book_0 ++ dktX4_book_1
theorem dksX4_book_0 : cX4_book.data.toList.drop 0 = dktX4_book_0 := by decide +kernel
theorem dksX4_book_1 : cX4_book.data.toList.drop 22 = dktX4_book_1 := dk_seg dksX4_book_0 22 rfl rfl
theorem dksX4_book_2 : cX4_book.data.toList.drop 46 = dktX4_book_2 := dk_seg dksX4_book_1 24 rfl rfl
theorem dksX4_book_3 : cX4_book.data.toList.drop 68 = dktX4_book_3 := dk_seg dksX4_book_2 22 rfl rfl
theorem dksX4_book_4 : cX4_book.data.toList.drop 92 = dktX4_book_4 := dk_seg dksX4_book_3 24 rfl rfl
theorem dksX4_book_5 : cX4_book.data.toList.drop 115 = dktX4_book_5 := dk_seg dksX4_book_4 23 rfl rfl
theorem dksX4_book_6 : cX4_book.data.toList.drop 139 = dktX4_book_6 := dk_seg dksX4_book_5 24 rfl rfl
theorem dksX4_book_7 : cX4_book.data.toList.drop 163 = dktX4_book_7 := dk_seg dksX4_book_6 24 rfl rfl
theorem dksX4_book_8 : cX4_book.data.toList.drop 187 = dktX4_book_8 := dk_seg dksX4_book_7 24 rfl rfl
theorem dksX4_book_9 : cX4_book.data.toList.drop 211 = dktX4_book_9 := dk_seg dksX4_book_8 24 rfl rfl
theorem dX4_book_0 : decode cX4_book 0 = .ok (.aload_n 0, 1) := dk_42 (dk_at dksX4_book_0 0 rfl rfl)
theorem dX4_book_1 : decode cX4_book 1 = .ok (.invokevirtual 79, 3) := dk_182 0 79 (dk_at dksX4_book_0 1 rfl rfl)
theorem dX4_book_4 : decode cX4_book 4 = .ok (.iload_n 1, 1) := dk_27 (dk_at dksX4_book_0 4 rfl rfl)
theorem dX4_book_5 : decode cX4_book 5 = .ok (.i2l, 1) := dk_133 (dk_at dksX4_book_0 5 rfl rfl)
theorem dX4_book_6 : decode cX4_book 6 = .ok (.lconst 0, 1) := dk_9 (dk_at dksX4_book_0 6 rfl rfl)
theorem dX4_book_7 : decode cX4_book 7 = .ok (.ldc2_w 181, 3) := dk_20 0 181 (dk_at dksX4_book_0 7 rfl rfl)
theorem dX4_book_10 : decode cX4_book 10 = .ok (.invokestatic 71, 3) := dk_184 0 71 (dk_at dksX4_book_0 10 rfl rfl)
theorem dX4_book_13 : decode cX4_book 13 = .ok (.ifCond .eq 42, 3) := dk_153 0 42 (dk_at dksX4_book_0 13 rfl rfl)
theorem dX4_book_16 : decode cX4_book 16 = .ok (.iload_n 2, 1) := dk_28 (dk_at dksX4_book_0 16 rfl rfl)
theorem dX4_book_17 : decode cX4_book 17 = .ok (.i2l, 1) := dk_133 (dk_at dksX4_book_0 17 rfl rfl)
theorem dX4_book_18 : decode cX4_book 18 = .ok (.lconst 1, 1) := dk_10 (dk_at dksX4_book_0 18 rfl rfl)
theorem dX4_book_19 : decode cX4_book 19 = .ok (.ldc2_w 170, 3) := dk_20 0 170 (dk_at dksX4_book_0 19 rfl rfl)
theorem dX4_book_22 : decode cX4_book 22 = .ok (.invokestatic 71, 3) := dk_184 0 71 (dk_at dksX4_book_1 0 rfl rfl)
theorem dX4_book_25 : decode cX4_book 25 = .ok (.ifCond .eq 30, 3) := dk_153 0 30 (dk_at dksX4_book_1 3 rfl rfl)
theorem dX4_book_28 : decode cX4_book 28 = .ok (.iload_n 3, 1) := dk_29 (dk_at dksX4_book_1 6 rfl rfl)
theorem dX4_book_29 : decode cX4_book 29 = .ok (.i2l, 1) := dk_133 (dk_at dksX4_book_1 7 rfl rfl)
theorem dX4_book_30 : decode cX4_book 30 = .ok (.ldc2_w 127, 3) := dk_20 0 127 (dk_at dksX4_book_1 8 rfl rfl)
theorem dX4_book_33 : decode cX4_book 33 = .ok (.ldc2_w 129, 3) := dk_20 0 129 (dk_at dksX4_book_1 11 rfl rfl)
theorem dX4_book_36 : decode cX4_book 36 = .ok (.invokestatic 71, 3) := dk_184 0 71 (dk_at dksX4_book_1 14 rfl rfl)
theorem dX4_book_39 : decode cX4_book 39 = .ok (.ifCond .eq 16, 3) := dk_153 0 16 (dk_at dksX4_book_1 17 rfl rfl)
theorem dX4_book_42 : decode cX4_book 42 = .ok (.iload 4, 2) := dk_21 4 (dk_at dksX4_book_1 20 rfl rfl)
theorem dX4_book_44 : decode cX4_book 44 = .ok (.i2l, 1) := dk_133 (dk_at dksX4_book_1 22 rfl rfl)
theorem dX4_book_45 : decode cX4_book 45 = .ok (.lconst 0, 1) := dk_9 (dk_at dksX4_book_1 23 rfl rfl)
theorem dX4_book_46 : decode cX4_book 46 = .ok (.ldc2_w 75, 3) := dk_20 0 75 (dk_at dksX4_book_2 0 rfl rfl)
theorem dX4_book_49 : decode cX4_book 49 = .ok (.invokestatic 71, 3) := dk_184 0 71 (dk_at dksX4_book_2 3 rfl rfl)
theorem dX4_book_52 : decode cX4_book 52 = .ok (.ifCond .ne 9, 3) := dk_154 0 9 (dk_at dksX4_book_2 6 rfl rfl)
theorem dX4_book_55 : decode cX4_book 55 = .ok (.aload_n 0, 1) := dk_42 (dk_at dksX4_book_2 9 rfl rfl)
theorem dX4_book_56 : decode cX4_book 56 = .ok (.iconst 1, 1) := dk_4 (dk_at dksX4_book_2 10 rfl rfl)
theorem dX4_book_57 : decode cX4_book 57 = .ok (.invokevirtual 60, 3) := dk_182 0 60 (dk_at dksX4_book_2 11 rfl rfl)
theorem dX4_book_60 : decode cX4_book 60 = .ok (.ireturn, 1) := dk_172 (dk_at dksX4_book_2 14 rfl rfl)
theorem dX4_book_61 : decode cX4_book 61 = .ok (.aload_n 0, 1) := dk_42 (dk_at dksX4_book_2 15 rfl rfl)
theorem dX4_book_62 : decode cX4_book 62 = .ok (.iconst 0, 1) := dk_3 (dk_at dksX4_book_2 16 rfl rfl)
theorem dX4_book_63 : decode cX4_book 63 = .ok (.invokevirtual 183, 3) := dk_182 0 183 (dk_at dksX4_book_2 17 rfl rfl)
theorem dX4_book_66 : decode cX4_book 66 = .ok (.bipush 6, 2) := dk_16 6 (dk_at dksX4_book_2 20 rfl rfl)
theorem dX4_book_68 : decode cX4_book 68 = .ok (.if_icmp .ne 12, 3) := dk_160 0 12 (dk_at dksX4_book_3 0 rfl rfl)
theorem dX4_book_71 : decode cX4_book 71 = .ok (.aload_n 0, 1) := dk_42 (dk_at dksX4_book_3 3 rfl rfl)
theorem dX4_book_72 : decode cX4_book 72 = .ok (.iconst 2, 1) := dk_5 (dk_at dksX4_book_3 4 rfl rfl)
theorem dX4_book_73 : decode cX4_book 73 = .ok (.iconst 1, 1) := dk_4 (dk_at dksX4_book_3 5 rfl rfl)
theorem dX4_book_74 : decode cX4_book 74 = .ok (.bipush 6, 2) := dk_16 6 (dk_at dksX4_book_3 6 rfl rfl)
theorem dX4_book_76 : decode cX4_book 76 = .ok (.invokevirtual 64, 3) := dk_182 0 64 (dk_at dksX4_book_3 8 rfl rfl)
theorem dX4_book_79 : decode cX4_book 79 = .ok (.ireturn, 1) := dk_172 (dk_at dksX4_book_3 11 rfl rfl)
theorem dX4_book_80 : decode cX4_book 80 = .ok (.aload_n 0, 1) := dk_42 (dk_at dksX4_book_3 12 rfl rfl)
theorem dX4_book_81 : decode cX4_book 81 = .ok (.getfield 9, 3) := dk_180 0 9 (dk_at dksX4_book_3 13 rfl rfl)
theorem dX4_book_84 : decode cX4_book 84 = .ok (.iconst 4, 1) := dk_7 (dk_at dksX4_book_3 16 rfl rfl)
theorem dX4_book_85 : decode cX4_book 85 = .ok (.iaload, 1) := dk_46 (dk_at dksX4_book_3 17 rfl rfl)
theorem dX4_book_86 : decode cX4_book 86 = .ok (.bipush 20, 2) := dk_16 20 (dk_at dksX4_book_3 18 rfl rfl)
theorem dX4_book_88 : decode cX4_book 88 = .ok (.if_icmp .ne 12, 3) := dk_160 0 12 (dk_at dksX4_book_3 20 rfl rfl)
theorem dX4_book_91 : decode cX4_book 91 = .ok (.aload_n 0, 1) := dk_42 (dk_at dksX4_book_3 23 rfl rfl)
theorem dX4_book_92 : decode cX4_book 92 = .ok (.iconst 2, 1) := dk_5 (dk_at dksX4_book_4 0 rfl rfl)
theorem dX4_book_93 : decode cX4_book 93 = .ok (.iconst 1, 1) := dk_4 (dk_at dksX4_book_4 1 rfl rfl)
theorem dX4_book_94 : decode cX4_book 94 = .ok (.bipush 20, 2) := dk_16 20 (dk_at dksX4_book_4 2 rfl rfl)
theorem dX4_book_96 : decode cX4_book 96 = .ok (.invokevirtual 64, 3) := dk_182 0 64 (dk_at dksX4_book_4 4 rfl rfl)
theorem dX4_book_99 : decode cX4_book 99 = .ok (.ireturn, 1) := dk_172 (dk_at dksX4_book_4 7 rfl rfl)
theorem dX4_book_100 : decode cX4_book 100 = .ok (.iload_n 1, 1) := dk_27 (dk_at dksX4_book_4 8 rfl rfl)
theorem dX4_book_101 : decode cX4_book 101 = .ok (.aload_n 0, 1) := dk_42 (dk_at dksX4_book_4 9 rfl rfl)
theorem dX4_book_102 : decode cX4_book 102 = .ok (.getfield 9, 3) := dk_180 0 9 (dk_at dksX4_book_4 10 rfl rfl)
theorem dX4_book_105 : decode cX4_book 105 = .ok (.iconst 0, 1) := dk_3 (dk_at dksX4_book_4 13 rfl rfl)
theorem dX4_book_106 : decode cX4_book 106 = .ok (.iaload, 1) := dk_46 (dk_at dksX4_book_4 14 rfl rfl)
theorem dX4_book_107 : decode cX4_book 107 = .ok (.if_icmp .gt 17, 3) := dk_163 0 17 (dk_at dksX4_book_4 15 rfl rfl)
theorem dX4_book_110 : decode cX4_book 110 = .ok (.aload_n 0, 1) := dk_42 (dk_at dksX4_book_4 18 rfl rfl)
theorem dX4_book_111 : decode cX4_book 111 = .ok (.iconst 2, 1) := dk_5 (dk_at dksX4_book_4 19 rfl rfl)
theorem dX4_book_112 : decode cX4_book 112 = .ok (.bipush 12, 2) := dk_16 12 (dk_at dksX4_book_4 20 rfl rfl)
theorem dX4_book_114 : decode cX4_book 114 = .ok (.aload_n 0, 1) := dk_42 (dk_at dksX4_book_4 22 rfl rfl)
theorem dX4_book_115 : decode cX4_book 115 = .ok (.getfield 9, 3) := dk_180 0 9 (dk_at dksX4_book_5 0 rfl rfl)
theorem dX4_book_118 : decode cX4_book 118 = .ok (.iconst 0, 1) := dk_3 (dk_at dksX4_book_5 3 rfl rfl)
theorem dX4_book_119 : decode cX4_book 119 = .ok (.iaload, 1) := dk_46 (dk_at dksX4_book_5 4 rfl rfl)
theorem dX4_book_120 : decode cX4_book 120 = .ok (.invokevirtual 64, 3) := dk_182 0 64 (dk_at dksX4_book_5 5 rfl rfl)
theorem dX4_book_123 : decode cX4_book 123 = .ok (.ireturn, 1) := dk_172 (dk_at dksX4_book_5 8 rfl rfl)
theorem dX4_book_124 : decode cX4_book 124 = .ok (.aload_n 0, 1) := dk_42 (dk_at dksX4_book_5 9 rfl rfl)
theorem dX4_book_125 : decode cX4_book 125 = .ok (.getfield 9, 3) := dk_180 0 9 (dk_at dksX4_book_5 10 rfl rfl)
theorem dX4_book_128 : decode cX4_book 128 = .ok (.iconst 4, 1) := dk_7 (dk_at dksX4_book_5 13 rfl rfl)
theorem dX4_book_129 : decode cX4_book 129 = .ok (.iaload, 1) := dk_46 (dk_at dksX4_book_5 14 rfl rfl)
theorem dX4_book_130 : decode cX4_book 130 = .ok (.invokestatic 178, 3) := dk_184 0 178 (dk_at dksX4_book_5 15 rfl rfl)
theorem dX4_book_133 : decode cX4_book 133 = .ok (.istore 5, 2) := dk_54 5 (dk_at dksX4_book_5 18 rfl rfl)
theorem dX4_book_135 : decode cX4_book 135 = .ok (.aload_n 0, 1) := dk_42 (dk_at dksX4_book_5 20 rfl rfl)
theorem dX4_book_136 : decode cX4_book 136 = .ok (.getfield 9, 3) := dk_180 0 9 (dk_at dksX4_book_5 21 rfl rfl)
theorem dX4_book_139 : decode cX4_book 139 = .ok (.iload 5, 2) := dk_21 5 (dk_at dksX4_book_6 0 rfl rfl)
theorem dX4_book_141 : decode cX4_book 141 = .ok (.iload_n 1, 1) := dk_27 (dk_at dksX4_book_6 2 rfl rfl)
theorem dX4_book_142 : decode cX4_book 142 = .ok (.iastore, 1) := dk_79 (dk_at dksX4_book_6 3 rfl rfl)
theorem dX4_book_143 : decode cX4_book 143 = .ok (.aload_n 0, 1) := dk_42 (dk_at dksX4_book_6 4 rfl rfl)
theorem dX4_book_144 : decode cX4_book 144 = .ok (.getfield 9, 3) := dk_180 0 9 (dk_at dksX4_book_6 5 rfl rfl)
theorem dX4_book_147 : decode cX4_book 147 = .ok (.iload 5, 2) := dk_21 5 (dk_at dksX4_book_6 8 rfl rfl)
theorem dX4_book_149 : decode cX4_book 149 = .ok (.iconst 1, 1) := dk_4 (dk_at dksX4_book_6 10 rfl rfl)
theorem dX4_book_150 : decode cX4_book 150 = .ok (.iadd, 1) := dk_96 (dk_at dksX4_book_6 11 rfl rfl)
theorem dX4_book_151 : decode cX4_book 151 = .ok (.iload_n 2, 1) := dk_28 (dk_at dksX4_book_6 12 rfl rfl)
theorem dX4_book_152 : decode cX4_book 152 = .ok (.iastore, 1) := dk_79 (dk_at dksX4_book_6 13 rfl rfl)
theorem dX4_book_153 : decode cX4_book 153 = .ok (.aload_n 0, 1) := dk_42 (dk_at dksX4_book_6 14 rfl rfl)
theorem dX4_book_154 : decode cX4_book 154 = .ok (.getfield 9, 3) := dk_180 0 9 (dk_at dksX4_book_6 15 rfl rfl)
theorem dX4_book_157 : decode cX4_book 157 = .ok (.iload 5, 2) := dk_21 5 (dk_at dksX4_book_6 18 rfl rfl)
theorem dX4_book_159 : decode cX4_book 159 = .ok (.iconst 2, 1) := dk_5 (dk_at dksX4_book_6 20 rfl rfl)
theorem dX4_book_160 : decode cX4_book 160 = .ok (.iadd, 1) := dk_96 (dk_at dksX4_book_6 21 rfl rfl)
theorem dX4_book_161 : decode cX4_book 161 = .ok (.iconst 0, 1) := dk_3 (dk_at dksX4_book_6 22 rfl rfl)
theorem dX4_book_162 : decode cX4_book 162 = .ok (.iastore, 1) := dk_79 (dk_at dksX4_book_6 23 rfl rfl)
theorem dX4_book_163 : decode cX4_book 163 = .ok (.aload_n 0, 1) := dk_42 (dk_at dksX4_book_7 0 rfl rfl)
theorem dX4_book_164 : decode cX4_book 164 = .ok (.getfield 9, 3) := dk_180 0 9 (dk_at dksX4_book_7 1 rfl rfl)
theorem dX4_book_167 : decode cX4_book 167 = .ok (.iload 5, 2) := dk_21 5 (dk_at dksX4_book_7 4 rfl rfl)
theorem dX4_book_169 : decode cX4_book 169 = .ok (.iconst 3, 1) := dk_6 (dk_at dksX4_book_7 6 rfl rfl)
theorem dX4_book_170 : decode cX4_book 170 = .ok (.iadd, 1) := dk_96 (dk_at dksX4_book_7 7 rfl rfl)
theorem dX4_book_171 : decode cX4_book 171 = .ok (.iconst 0, 1) := dk_3 (dk_at dksX4_book_7 8 rfl rfl)
theorem dX4_book_172 : decode cX4_book 172 = .ok (.iastore, 1) := dk_79 (dk_at dksX4_book_7 9 rfl rfl)
theorem dX4_book_173 : decode cX4_book 173 = .ok (.aload_n 0, 1) := dk_42 (dk_at dksX4_book_7 10 rfl rfl)
theorem dX4_book_174 : decode cX4_book 174 = .ok (.getfield 9, 3) := dk_180 0 9 (dk_at dksX4_book_7 11 rfl rfl)
theorem dX4_book_177 : decode cX4_book 177 = .ok (.iload 5, 2) := dk_21 5 (dk_at dksX4_book_7 14 rfl rfl)
theorem dX4_book_179 : decode cX4_book 179 = .ok (.iconst 4, 1) := dk_7 (dk_at dksX4_book_7 16 rfl rfl)
theorem dX4_book_180 : decode cX4_book 180 = .ok (.iadd, 1) := dk_96 (dk_at dksX4_book_7 17 rfl rfl)
theorem dX4_book_181 : decode cX4_book 181 = .ok (.iload_n 3, 1) := dk_29 (dk_at dksX4_book_7 18 rfl rfl)
theorem dX4_book_182 : decode cX4_book 182 = .ok (.iastore, 1) := dk_79 (dk_at dksX4_book_7 19 rfl rfl)
theorem dX4_book_183 : decode cX4_book 183 = .ok (.aload_n 0, 1) := dk_42 (dk_at dksX4_book_7 20 rfl rfl)
theorem dX4_book_184 : decode cX4_book 184 = .ok (.getfield 9, 3) := dk_180 0 9 (dk_at dksX4_book_7 21 rfl rfl)
theorem dX4_book_187 : decode cX4_book 187 = .ok (.iload 5, 2) := dk_21 5 (dk_at dksX4_book_8 0 rfl rfl)
theorem dX4_book_189 : decode cX4_book 189 = .ok (.iconst 5, 1) := dk_8 (dk_at dksX4_book_8 2 rfl rfl)
theorem dX4_book_190 : decode cX4_book 190 = .ok (.iadd, 1) := dk_96 (dk_at dksX4_book_8 3 rfl rfl)
theorem dX4_book_191 : decode cX4_book 191 = .ok (.iload 4, 2) := dk_21 4 (dk_at dksX4_book_8 4 rfl rfl)
theorem dX4_book_193 : decode cX4_book 193 = .ok (.iastore, 1) := dk_79 (dk_at dksX4_book_8 6 rfl rfl)
theorem dX4_book_194 : decode cX4_book 194 = .ok (.aload_n 0, 1) := dk_42 (dk_at dksX4_book_8 7 rfl rfl)
theorem dX4_book_195 : decode cX4_book 195 = .ok (.getfield 9, 3) := dk_180 0 9 (dk_at dksX4_book_8 8 rfl rfl)
theorem dX4_book_198 : decode cX4_book 198 = .ok (.iconst 4, 1) := dk_7 (dk_at dksX4_book_8 11 rfl rfl)
theorem dX4_book_199 : decode cX4_book 199 = .ok (.dup2, 1) := dk_92 (dk_at dksX4_book_8 12 rfl rfl)
theorem dX4_book_200 : decode cX4_book 200 = .ok (.iaload, 1) := dk_46 (dk_at dksX4_book_8 13 rfl rfl)
theorem dX4_book_201 : decode cX4_book 201 = .ok (.iconst 1, 1) := dk_4 (dk_at dksX4_book_8 14 rfl rfl)
theorem dX4_book_202 : decode cX4_book 202 = .ok (.iadd, 1) := dk_96 (dk_at dksX4_book_8 15 rfl rfl)
theorem dX4_book_203 : decode cX4_book 203 = .ok (.iastore, 1) := dk_79 (dk_at dksX4_book_8 16 rfl rfl)
theorem dX4_book_204 : decode cX4_book 204 = .ok (.aload_n 0, 1) := dk_42 (dk_at dksX4_book_8 17 rfl rfl)
theorem dX4_book_205 : decode cX4_book 205 = .ok (.aload_n 0, 1) := dk_42 (dk_at dksX4_book_8 18 rfl rfl)
theorem dX4_book_206 : decode cX4_book 206 = .ok (.getfield 9, 3) := dk_180 0 9 (dk_at dksX4_book_8 19 rfl rfl)
theorem dX4_book_209 : decode cX4_book 209 = .ok (.iconst 4, 1) := dk_7 (dk_at dksX4_book_8 22 rfl rfl)
theorem dX4_book_210 : decode cX4_book 210 = .ok (.iaload, 1) := dk_46 (dk_at dksX4_book_8 23 rfl rfl)
theorem dX4_book_211 : decode cX4_book 211 = .ok (.iconst 1, 1) := dk_4 (dk_at dksX4_book_9 0 rfl rfl)
theorem dX4_book_212 : decode cX4_book 212 = .ok (.isub, 1) := dk_100 (dk_at dksX4_book_9 1 rfl rfl)
theorem dX4_book_213 : decode cX4_book 213 = .ok (.invokevirtual 85, 3) := dk_182 0 85 (dk_at dksX4_book_9 2 rfl rfl)
theorem dX4_book_216 : decode cX4_book 216 = .ok (.ireturn, 1) := dk_172 (dk_at dksX4_book_9 5 rfl rfl)
abbrev cX4_partiesAt : ByteArray := prog_17_method_54_code
def yX4_partiesAt : MethodName := ⟨RX4, "partiesAt", "(I)I"⟩
def dkwX4_partiesAt_1 : List UInt8 := [96, 46, 27, 160, 0, 7, 4, 167, 0, 4, 3, 96, 61, 132, 3, 1, 167, 255, 220, 28, 172]
abbrev dktX4_partiesAt_1 : List UInt8 := dkwX4_partiesAt_1 ++ []
def dkwX4_partiesAt_0 : List UInt8 := [3, 61, 3, 62, 29, 42, 180, 0, 9, 7, 46, 162, 0, 32, 28, 42, 180, 0, 9, 29, 184, 0, 178, 5]
abbrev dktX4_partiesAt_0 : List UInt8 := dkwX4_partiesAt_0 ++ dktX4_partiesAt_1
theorem dksX4_partiesAt_0 : cX4_partiesAt.data.toList.drop 0 = dktX4_partiesAt_0 := by decide +kernel
theorem dksX4_partiesAt_1 : cX4_partiesAt.data.toList.drop 24 = dktX4_partiesAt_1 := dk_seg dksX4_partiesAt_0 24 rfl rfl
theorem dX4_partiesAt_0 : decode cX4_partiesAt 0 = .ok (.iconst 0, 1) := dk_3 (dk_at dksX4_partiesAt_0 0 rfl rfl)
theorem dX4_partiesAt_1 : decode cX4_partiesAt 1 = .ok (.istore_n 2, 1) := dk_61 (dk_at dksX4_partiesAt_0 1 rfl rfl)
theorem dX4_partiesAt_2 : decode cX4_partiesAt 2 = .ok (.iconst 0, 1) := dk_3 (dk_at dksX4_partiesAt_0 2 rfl rfl)
theorem dX4_partiesAt_3 : decode cX4_partiesAt 3 = .ok (.istore_n 3, 1) := dk_62 (dk_at dksX4_partiesAt_0 3 rfl rfl)
theorem dX4_partiesAt_4 : decode cX4_partiesAt 4 = .ok (.iload_n 3, 1) := dk_29 (dk_at dksX4_partiesAt_0 4 rfl rfl)
theorem dX4_partiesAt_5 : decode cX4_partiesAt 5 = .ok (.aload_n 0, 1) := dk_42 (dk_at dksX4_partiesAt_0 5 rfl rfl)
theorem dX4_partiesAt_6 : decode cX4_partiesAt 6 = .ok (.getfield 9, 3) := dk_180 0 9 (dk_at dksX4_partiesAt_0 6 rfl rfl)
theorem dX4_partiesAt_9 : decode cX4_partiesAt 9 = .ok (.iconst 4, 1) := dk_7 (dk_at dksX4_partiesAt_0 9 rfl rfl)
theorem dX4_partiesAt_10 : decode cX4_partiesAt 10 = .ok (.iaload, 1) := dk_46 (dk_at dksX4_partiesAt_0 10 rfl rfl)
theorem dX4_partiesAt_11 : decode cX4_partiesAt 11 = .ok (.if_icmp .ge 32, 3) := dk_162 0 32 (dk_at dksX4_partiesAt_0 11 rfl rfl)
theorem dX4_partiesAt_14 : decode cX4_partiesAt 14 = .ok (.iload_n 2, 1) := dk_28 (dk_at dksX4_partiesAt_0 14 rfl rfl)
theorem dX4_partiesAt_15 : decode cX4_partiesAt 15 = .ok (.aload_n 0, 1) := dk_42 (dk_at dksX4_partiesAt_0 15 rfl rfl)
theorem dX4_partiesAt_16 : decode cX4_partiesAt 16 = .ok (.getfield 9, 3) := dk_180 0 9 (dk_at dksX4_partiesAt_0 16 rfl rfl)
theorem dX4_partiesAt_19 : decode cX4_partiesAt 19 = .ok (.iload_n 3, 1) := dk_29 (dk_at dksX4_partiesAt_0 19 rfl rfl)
theorem dX4_partiesAt_20 : decode cX4_partiesAt 20 = .ok (.invokestatic 178, 3) := dk_184 0 178 (dk_at dksX4_partiesAt_0 20 rfl rfl)
theorem dX4_partiesAt_23 : decode cX4_partiesAt 23 = .ok (.iconst 2, 1) := dk_5 (dk_at dksX4_partiesAt_0 23 rfl rfl)
theorem dX4_partiesAt_24 : decode cX4_partiesAt 24 = .ok (.iadd, 1) := dk_96 (dk_at dksX4_partiesAt_1 0 rfl rfl)
theorem dX4_partiesAt_25 : decode cX4_partiesAt 25 = .ok (.iaload, 1) := dk_46 (dk_at dksX4_partiesAt_1 1 rfl rfl)
theorem dX4_partiesAt_26 : decode cX4_partiesAt 26 = .ok (.iload_n 1, 1) := dk_27 (dk_at dksX4_partiesAt_1 2 rfl rfl)
theorem dX4_partiesAt_27 : decode cX4_partiesAt 27 = .ok (.if_icmp .ne 7, 3) := dk_160 0 7 (dk_at dksX4_partiesAt_1 3 rfl rfl)
theorem dX4_partiesAt_30 : decode cX4_partiesAt 30 = .ok (.iconst 1, 1) := dk_4 (dk_at dksX4_partiesAt_1 6 rfl rfl)
theorem dX4_partiesAt_31 : decode cX4_partiesAt 31 = .ok (.goto 4, 3) := dk_167 0 4 (dk_at dksX4_partiesAt_1 7 rfl rfl)
theorem dX4_partiesAt_34 : decode cX4_partiesAt 34 = .ok (.iconst 0, 1) := dk_3 (dk_at dksX4_partiesAt_1 10 rfl rfl)
theorem dX4_partiesAt_35 : decode cX4_partiesAt 35 = .ok (.iadd, 1) := dk_96 (dk_at dksX4_partiesAt_1 11 rfl rfl)
theorem dX4_partiesAt_36 : decode cX4_partiesAt 36 = .ok (.istore_n 2, 1) := dk_61 (dk_at dksX4_partiesAt_1 12 rfl rfl)
theorem dX4_partiesAt_37 : decode cX4_partiesAt 37 = .ok (.iinc 3 1, 3) := dk_132 3 1 (dk_at dksX4_partiesAt_1 13 rfl rfl)
theorem dX4_partiesAt_40 : decode cX4_partiesAt 40 = .ok (.goto (-36), 3) := dk_167 255 220 (dk_at dksX4_partiesAt_1 16 rfl rfl)
theorem dX4_partiesAt_43 : decode cX4_partiesAt 43 = .ok (.iload_n 2, 1) := dk_28 (dk_at dksX4_partiesAt_1 19 rfl rfl)
theorem dX4_partiesAt_44 : decode cX4_partiesAt 44 = .ok (.ireturn, 1) := dk_172 (dk_at dksX4_partiesAt_1 20 rfl rfl)
abbrev cX4_party : ByteArray := prog_17_method_11_code
def yX4_party : MethodName := ⟨RX4, "party", "(I)I"⟩
def dkwX4_party_0 : List UInt8 := [17, 0, 186, 16, 6, 26, 104, 96, 172]
abbrev dktX4_party_0 : List UInt8 := dkwX4_party_0 ++ []
theorem dksX4_party_0 : cX4_party.data.toList.drop 0 = dktX4_party_0 := by decide +kernel
theorem dX4_party_0 : decode cX4_party 0 = .ok (.sipush 186, 3) := dk_17 0 186 (dk_at dksX4_party_0 0 rfl rfl)
theorem dX4_party_3 : decode cX4_party 3 = .ok (.bipush 6, 2) := dk_16 6 (dk_at dksX4_party_0 3 rfl rfl)
theorem dX4_party_5 : decode cX4_party 5 = .ok (.iload_n 0, 1) := dk_26 (dk_at dksX4_party_0 5 rfl rfl)
theorem dX4_party_6 : decode cX4_party 6 = .ok (.imul, 1) := dk_104 (dk_at dksX4_party_0 6 rfl rfl)
theorem dX4_party_7 : decode cX4_party 7 = .ok (.iadd, 1) := dk_96 (dk_at dksX4_party_0 7 rfl rfl)
theorem dX4_party_8 : decode cX4_party 8 = .ok (.ireturn, 1) := dk_172 (dk_at dksX4_party_0 8 rfl rfl)
abbrev cX4_cancel : ByteArray := prog_17_method_56_code
def yX4_cancel : MethodName := ⟨RX4, "cancel", "(I)I"⟩
def dkwX4_cancel_2 : List UInt8 := [182, 0, 64, 172, 42, 180, 0, 9, 28, 5, 96, 5, 79, 42, 42, 3, 182, 0, 183, 182, 0, 85, 172]
abbrev dktX4_cancel_2 : List UInt8 := dkwX4_cancel_2 ++ []
def dkwX4_cancel_1 : List UInt8 := [180, 0, 9, 28, 5, 96, 46, 153, 0, 19, 42, 5, 16, 11, 42, 180, 0, 9, 28, 5, 96, 46]
abbrev dktX4_cancel_1 : List UInt8 := dkwX4_cancel_1 ++ dktX4_cancel_2
def dkwX4_cancel_0 : List UInt8 := [42, 182, 0, 79, 42, 27, 182, 0, 186, 154, 0, 9, 42, 4, 182, 0, 60, 172, 27, 184, 0, 178, 61, 42]
abbrev dktX4_cancel_0 : List UInt8 := dkwX4_cancel_0 ++ dktX4_cancel_1
theorem dksX4_cancel_0 : cX4_cancel.data.toList.drop 0 = dktX4_cancel_0 := by decide +kernel
theorem dksX4_cancel_1 : cX4_cancel.data.toList.drop 24 = dktX4_cancel_1 := dk_seg dksX4_cancel_0 24 rfl rfl
theorem dksX4_cancel_2 : cX4_cancel.data.toList.drop 46 = dktX4_cancel_2 := dk_seg dksX4_cancel_1 22 rfl rfl
theorem dX4_cancel_0 : decode cX4_cancel 0 = .ok (.aload_n 0, 1) := dk_42 (dk_at dksX4_cancel_0 0 rfl rfl)
theorem dX4_cancel_1 : decode cX4_cancel 1 = .ok (.invokevirtual 79, 3) := dk_182 0 79 (dk_at dksX4_cancel_0 1 rfl rfl)
theorem dX4_cancel_4 : decode cX4_cancel 4 = .ok (.aload_n 0, 1) := dk_42 (dk_at dksX4_cancel_0 4 rfl rfl)
theorem dX4_cancel_5 : decode cX4_cancel 5 = .ok (.iload_n 1, 1) := dk_27 (dk_at dksX4_cancel_0 5 rfl rfl)
theorem dX4_cancel_6 : decode cX4_cancel 6 = .ok (.invokevirtual 186, 3) := dk_182 0 186 (dk_at dksX4_cancel_0 6 rfl rfl)
theorem dX4_cancel_9 : decode cX4_cancel 9 = .ok (.ifCond .ne 9, 3) := dk_154 0 9 (dk_at dksX4_cancel_0 9 rfl rfl)
theorem dX4_cancel_12 : decode cX4_cancel 12 = .ok (.aload_n 0, 1) := dk_42 (dk_at dksX4_cancel_0 12 rfl rfl)
theorem dX4_cancel_13 : decode cX4_cancel 13 = .ok (.iconst 1, 1) := dk_4 (dk_at dksX4_cancel_0 13 rfl rfl)
theorem dX4_cancel_14 : decode cX4_cancel 14 = .ok (.invokevirtual 60, 3) := dk_182 0 60 (dk_at dksX4_cancel_0 14 rfl rfl)
theorem dX4_cancel_17 : decode cX4_cancel 17 = .ok (.ireturn, 1) := dk_172 (dk_at dksX4_cancel_0 17 rfl rfl)
theorem dX4_cancel_18 : decode cX4_cancel 18 = .ok (.iload_n 1, 1) := dk_27 (dk_at dksX4_cancel_0 18 rfl rfl)
theorem dX4_cancel_19 : decode cX4_cancel 19 = .ok (.invokestatic 178, 3) := dk_184 0 178 (dk_at dksX4_cancel_0 19 rfl rfl)
theorem dX4_cancel_22 : decode cX4_cancel 22 = .ok (.istore_n 2, 1) := dk_61 (dk_at dksX4_cancel_0 22 rfl rfl)
theorem dX4_cancel_23 : decode cX4_cancel 23 = .ok (.aload_n 0, 1) := dk_42 (dk_at dksX4_cancel_0 23 rfl rfl)
theorem dX4_cancel_24 : decode cX4_cancel 24 = .ok (.getfield 9, 3) := dk_180 0 9 (dk_at dksX4_cancel_1 0 rfl rfl)
theorem dX4_cancel_27 : decode cX4_cancel 27 = .ok (.iload_n 2, 1) := dk_28 (dk_at dksX4_cancel_1 3 rfl rfl)
theorem dX4_cancel_28 : decode cX4_cancel 28 = .ok (.iconst 2, 1) := dk_5 (dk_at dksX4_cancel_1 4 rfl rfl)
theorem dX4_cancel_29 : decode cX4_cancel 29 = .ok (.iadd, 1) := dk_96 (dk_at dksX4_cancel_1 5 rfl rfl)
theorem dX4_cancel_30 : decode cX4_cancel 30 = .ok (.iaload, 1) := dk_46 (dk_at dksX4_cancel_1 6 rfl rfl)
theorem dX4_cancel_31 : decode cX4_cancel 31 = .ok (.ifCond .eq 19, 3) := dk_153 0 19 (dk_at dksX4_cancel_1 7 rfl rfl)
theorem dX4_cancel_34 : decode cX4_cancel 34 = .ok (.aload_n 0, 1) := dk_42 (dk_at dksX4_cancel_1 10 rfl rfl)
theorem dX4_cancel_35 : decode cX4_cancel 35 = .ok (.iconst 2, 1) := dk_5 (dk_at dksX4_cancel_1 11 rfl rfl)
theorem dX4_cancel_36 : decode cX4_cancel 36 = .ok (.bipush 11, 2) := dk_16 11 (dk_at dksX4_cancel_1 12 rfl rfl)
theorem dX4_cancel_38 : decode cX4_cancel 38 = .ok (.aload_n 0, 1) := dk_42 (dk_at dksX4_cancel_1 14 rfl rfl)
theorem dX4_cancel_39 : decode cX4_cancel 39 = .ok (.getfield 9, 3) := dk_180 0 9 (dk_at dksX4_cancel_1 15 rfl rfl)
theorem dX4_cancel_42 : decode cX4_cancel 42 = .ok (.iload_n 2, 1) := dk_28 (dk_at dksX4_cancel_1 18 rfl rfl)
theorem dX4_cancel_43 : decode cX4_cancel 43 = .ok (.iconst 2, 1) := dk_5 (dk_at dksX4_cancel_1 19 rfl rfl)
theorem dX4_cancel_44 : decode cX4_cancel 44 = .ok (.iadd, 1) := dk_96 (dk_at dksX4_cancel_1 20 rfl rfl)
theorem dX4_cancel_45 : decode cX4_cancel 45 = .ok (.iaload, 1) := dk_46 (dk_at dksX4_cancel_1 21 rfl rfl)
theorem dX4_cancel_46 : decode cX4_cancel 46 = .ok (.invokevirtual 64, 3) := dk_182 0 64 (dk_at dksX4_cancel_2 0 rfl rfl)
theorem dX4_cancel_49 : decode cX4_cancel 49 = .ok (.ireturn, 1) := dk_172 (dk_at dksX4_cancel_2 3 rfl rfl)
theorem dX4_cancel_50 : decode cX4_cancel 50 = .ok (.aload_n 0, 1) := dk_42 (dk_at dksX4_cancel_2 4 rfl rfl)
theorem dX4_cancel_51 : decode cX4_cancel 51 = .ok (.getfield 9, 3) := dk_180 0 9 (dk_at dksX4_cancel_2 5 rfl rfl)
theorem dX4_cancel_54 : decode cX4_cancel 54 = .ok (.iload_n 2, 1) := dk_28 (dk_at dksX4_cancel_2 8 rfl rfl)
theorem dX4_cancel_55 : decode cX4_cancel 55 = .ok (.iconst 2, 1) := dk_5 (dk_at dksX4_cancel_2 9 rfl rfl)
theorem dX4_cancel_56 : decode cX4_cancel 56 = .ok (.iadd, 1) := dk_96 (dk_at dksX4_cancel_2 10 rfl rfl)
theorem dX4_cancel_57 : decode cX4_cancel 57 = .ok (.iconst 2, 1) := dk_5 (dk_at dksX4_cancel_2 11 rfl rfl)
theorem dX4_cancel_58 : decode cX4_cancel 58 = .ok (.iastore, 1) := dk_79 (dk_at dksX4_cancel_2 12 rfl rfl)
theorem dX4_cancel_59 : decode cX4_cancel 59 = .ok (.aload_n 0, 1) := dk_42 (dk_at dksX4_cancel_2 13 rfl rfl)
theorem dX4_cancel_60 : decode cX4_cancel 60 = .ok (.aload_n 0, 1) := dk_42 (dk_at dksX4_cancel_2 14 rfl rfl)
theorem dX4_cancel_61 : decode cX4_cancel 61 = .ok (.iconst 0, 1) := dk_3 (dk_at dksX4_cancel_2 15 rfl rfl)
theorem dX4_cancel_62 : decode cX4_cancel 62 = .ok (.invokevirtual 183, 3) := dk_182 0 183 (dk_at dksX4_cancel_2 16 rfl rfl)
theorem dX4_cancel_65 : decode cX4_cancel 65 = .ok (.invokevirtual 85, 3) := dk_182 0 85 (dk_at dksX4_cancel_2 19 rfl rfl)
theorem dX4_cancel_68 : decode cX4_cancel 68 = .ok (.ireturn, 1) := dk_172 (dk_at dksX4_cancel_2 22 rfl rfl)
abbrev cX4_isParty : ByteArray := prog_17_method_15_code
def yX4_isParty : MethodName := ⟨RX4, "isParty", "(I)Z"⟩
def dkwX4_isParty_0 : List UInt8 := [27, 133, 9, 42, 180, 0, 9, 7, 46, 4, 100, 133, 184, 0, 71, 172]
abbrev dktX4_isParty_0 : List UInt8 := dkwX4_isParty_0 ++ []
theorem dksX4_isParty_0 : cX4_isParty.data.toList.drop 0 = dktX4_isParty_0 := by decide +kernel
theorem dX4_isParty_0 : decode cX4_isParty 0 = .ok (.iload_n 1, 1) := dk_27 (dk_at dksX4_isParty_0 0 rfl rfl)
theorem dX4_isParty_1 : decode cX4_isParty 1 = .ok (.i2l, 1) := dk_133 (dk_at dksX4_isParty_0 1 rfl rfl)
theorem dX4_isParty_2 : decode cX4_isParty 2 = .ok (.lconst 0, 1) := dk_9 (dk_at dksX4_isParty_0 2 rfl rfl)
theorem dX4_isParty_3 : decode cX4_isParty 3 = .ok (.aload_n 0, 1) := dk_42 (dk_at dksX4_isParty_0 3 rfl rfl)
theorem dX4_isParty_4 : decode cX4_isParty 4 = .ok (.getfield 9, 3) := dk_180 0 9 (dk_at dksX4_isParty_0 4 rfl rfl)
theorem dX4_isParty_7 : decode cX4_isParty 7 = .ok (.iconst 4, 1) := dk_7 (dk_at dksX4_isParty_0 7 rfl rfl)
theorem dX4_isParty_8 : decode cX4_isParty 8 = .ok (.iaload, 1) := dk_46 (dk_at dksX4_isParty_0 8 rfl rfl)
theorem dX4_isParty_9 : decode cX4_isParty 9 = .ok (.iconst 1, 1) := dk_4 (dk_at dksX4_isParty_0 9 rfl rfl)
theorem dX4_isParty_10 : decode cX4_isParty 10 = .ok (.isub, 1) := dk_100 (dk_at dksX4_isParty_0 10 rfl rfl)
theorem dX4_isParty_11 : decode cX4_isParty 11 = .ok (.i2l, 1) := dk_133 (dk_at dksX4_isParty_0 11 rfl rfl)
theorem dX4_isParty_12 : decode cX4_isParty 12 = .ok (.invokestatic 71, 3) := dk_184 0 71 (dk_at dksX4_isParty_0 12 rfl rfl)
theorem dX4_isParty_15 : decode cX4_isParty 15 = .ok (.ireturn, 1) := dk_172 (dk_at dksX4_isParty_0 15 rfl rfl)
abbrev cX4_partyOf : ByteArray := prog_17_method_57_code
def yX4_partyOf : MethodName := ⟨RX4, "partyOf", "(II)I"⟩
def dkwX4_partyOf_2 : List UInt8 := [5, 182, 0, 60, 172]
abbrev dktX4_partyOf_2 : List UInt8 := dkwX4_partyOf_2 ++ []
def dkwX4_partyOf_1 : List UInt8 := [20, 0, 189, 184, 0, 71, 153, 0, 17, 42, 180, 0, 9, 27, 184, 0, 178, 28, 96, 46, 167, 0, 8, 42]
abbrev dktX4_partyOf_1 : List UInt8 := dkwX4_partyOf_1 ++ dktX4_partyOf_2
def dkwX4_partyOf_0 : List UInt8 := [42, 3, 181, 0, 54, 42, 27, 182, 0, 186, 154, 0, 9, 42, 4, 182, 0, 60, 172, 28, 133, 9]
abbrev dktX4_partyOf_0 : List UInt8 := dkwX4_partyOf_0 ++ dktX4_partyOf_1
theorem dksX4_partyOf_0 : cX4_partyOf.data.toList.drop 0 = dktX4_partyOf_0 := by decide +kernel
theorem dksX4_partyOf_1 : cX4_partyOf.data.toList.drop 22 = dktX4_partyOf_1 := dk_seg dksX4_partyOf_0 22 rfl rfl
theorem dksX4_partyOf_2 : cX4_partyOf.data.toList.drop 46 = dktX4_partyOf_2 := dk_seg dksX4_partyOf_1 24 rfl rfl
theorem dX4_partyOf_0 : decode cX4_partyOf 0 = .ok (.aload_n 0, 1) := dk_42 (dk_at dksX4_partyOf_0 0 rfl rfl)
theorem dX4_partyOf_1 : decode cX4_partyOf 1 = .ok (.iconst 0, 1) := dk_3 (dk_at dksX4_partyOf_0 1 rfl rfl)
theorem dX4_partyOf_2 : decode cX4_partyOf 2 = .ok (.putfield 54, 3) := dk_181 0 54 (dk_at dksX4_partyOf_0 2 rfl rfl)
theorem dX4_partyOf_5 : decode cX4_partyOf 5 = .ok (.aload_n 0, 1) := dk_42 (dk_at dksX4_partyOf_0 5 rfl rfl)
theorem dX4_partyOf_6 : decode cX4_partyOf 6 = .ok (.iload_n 1, 1) := dk_27 (dk_at dksX4_partyOf_0 6 rfl rfl)
theorem dX4_partyOf_7 : decode cX4_partyOf 7 = .ok (.invokevirtual 186, 3) := dk_182 0 186 (dk_at dksX4_partyOf_0 7 rfl rfl)
theorem dX4_partyOf_10 : decode cX4_partyOf 10 = .ok (.ifCond .ne 9, 3) := dk_154 0 9 (dk_at dksX4_partyOf_0 10 rfl rfl)
theorem dX4_partyOf_13 : decode cX4_partyOf 13 = .ok (.aload_n 0, 1) := dk_42 (dk_at dksX4_partyOf_0 13 rfl rfl)
theorem dX4_partyOf_14 : decode cX4_partyOf 14 = .ok (.iconst 1, 1) := dk_4 (dk_at dksX4_partyOf_0 14 rfl rfl)
theorem dX4_partyOf_15 : decode cX4_partyOf 15 = .ok (.invokevirtual 60, 3) := dk_182 0 60 (dk_at dksX4_partyOf_0 15 rfl rfl)
theorem dX4_partyOf_18 : decode cX4_partyOf 18 = .ok (.ireturn, 1) := dk_172 (dk_at dksX4_partyOf_0 18 rfl rfl)
theorem dX4_partyOf_19 : decode cX4_partyOf 19 = .ok (.iload_n 2, 1) := dk_28 (dk_at dksX4_partyOf_0 19 rfl rfl)
theorem dX4_partyOf_20 : decode cX4_partyOf 20 = .ok (.i2l, 1) := dk_133 (dk_at dksX4_partyOf_0 20 rfl rfl)
theorem dX4_partyOf_21 : decode cX4_partyOf 21 = .ok (.lconst 0, 1) := dk_9 (dk_at dksX4_partyOf_0 21 rfl rfl)
theorem dX4_partyOf_22 : decode cX4_partyOf 22 = .ok (.ldc2_w 189, 3) := dk_20 0 189 (dk_at dksX4_partyOf_1 0 rfl rfl)
theorem dX4_partyOf_25 : decode cX4_partyOf 25 = .ok (.invokestatic 71, 3) := dk_184 0 71 (dk_at dksX4_partyOf_1 3 rfl rfl)
theorem dX4_partyOf_28 : decode cX4_partyOf 28 = .ok (.ifCond .eq 17, 3) := dk_153 0 17 (dk_at dksX4_partyOf_1 6 rfl rfl)
theorem dX4_partyOf_31 : decode cX4_partyOf 31 = .ok (.aload_n 0, 1) := dk_42 (dk_at dksX4_partyOf_1 9 rfl rfl)
theorem dX4_partyOf_32 : decode cX4_partyOf 32 = .ok (.getfield 9, 3) := dk_180 0 9 (dk_at dksX4_partyOf_1 10 rfl rfl)
theorem dX4_partyOf_35 : decode cX4_partyOf 35 = .ok (.iload_n 1, 1) := dk_27 (dk_at dksX4_partyOf_1 13 rfl rfl)
theorem dX4_partyOf_36 : decode cX4_partyOf 36 = .ok (.invokestatic 178, 3) := dk_184 0 178 (dk_at dksX4_partyOf_1 14 rfl rfl)
theorem dX4_partyOf_39 : decode cX4_partyOf 39 = .ok (.iload_n 2, 1) := dk_28 (dk_at dksX4_partyOf_1 17 rfl rfl)
theorem dX4_partyOf_40 : decode cX4_partyOf 40 = .ok (.iadd, 1) := dk_96 (dk_at dksX4_partyOf_1 18 rfl rfl)
theorem dX4_partyOf_41 : decode cX4_partyOf 41 = .ok (.iaload, 1) := dk_46 (dk_at dksX4_partyOf_1 19 rfl rfl)
theorem dX4_partyOf_42 : decode cX4_partyOf 42 = .ok (.goto 8, 3) := dk_167 0 8 (dk_at dksX4_partyOf_1 20 rfl rfl)
theorem dX4_partyOf_45 : decode cX4_partyOf 45 = .ok (.aload_n 0, 1) := dk_42 (dk_at dksX4_partyOf_1 23 rfl rfl)
theorem dX4_partyOf_46 : decode cX4_partyOf 46 = .ok (.iconst 2, 1) := dk_5 (dk_at dksX4_partyOf_2 0 rfl rfl)
theorem dX4_partyOf_47 : decode cX4_partyOf 47 = .ok (.invokevirtual 60, 3) := dk_182 0 60 (dk_at dksX4_partyOf_2 1 rfl rfl)
theorem dX4_partyOf_50 : decode cX4_partyOf 50 = .ok (.ireturn, 1) := dk_172 (dk_at dksX4_partyOf_2 4 rfl rfl)
abbrev cX4_nextParty : ByteArray := prog_17_method_58_code
def yX4_nextParty : MethodName := ⟨RX4, "nextParty", "()I"⟩
def dkwX4_nextParty_4 : List UInt8 := [27, 172]
abbrev dktX4_nextParty_4 : List UInt8 := dkwX4_nextParty_4 ++ []
def dkwX4_nextParty_3 : List UInt8 := [167, 0, 4, 27, 60, 132, 2, 1, 167, 255, 187, 27, 2, 160, 0, 11, 42, 4, 182, 0, 60, 167, 0, 4]
abbrev dktX4_nextParty_3 : List UInt8 := dkwX4_nextParty_3 ++ dktX4_nextParty_4
def dkwX4_nextParty_2 : List UInt8 := [180, 0, 9, 27, 184, 0, 178, 46, 162, 0, 7, 4, 167, 0, 4, 3, 62, 29, 153, 0, 7, 28]
abbrev dktX4_nextParty_2 : List UInt8 := dkwX4_nextParty_2 ++ dktX4_nextParty_3
def dkwX4_nextParty_1 : List UInt8 := [184, 0, 178, 5, 96, 46, 154, 0, 33, 27, 2, 159, 0, 24, 42, 180, 0, 9, 28, 184, 0, 178, 46, 42]
abbrev dktX4_nextParty_1 : List UInt8 := dkwX4_nextParty_1 ++ dktX4_nextParty_2
def dkwX4_nextParty_0 : List UInt8 := [42, 3, 181, 0, 54, 2, 60, 3, 61, 28, 42, 180, 0, 9, 7, 46, 162, 0, 65, 42, 180, 0, 9, 28]
abbrev dktX4_nextParty_0 : List UInt8 := dkwX4_nextParty_0 ++ dktX4_nextParty_1
theorem dksX4_nextParty_0 : cX4_nextParty.data.toList.drop 0 = dktX4_nextParty_0 := by decide +kernel
theorem dksX4_nextParty_1 : cX4_nextParty.data.toList.drop 24 = dktX4_nextParty_1 := dk_seg dksX4_nextParty_0 24 rfl rfl
theorem dksX4_nextParty_2 : cX4_nextParty.data.toList.drop 48 = dktX4_nextParty_2 := dk_seg dksX4_nextParty_1 24 rfl rfl
theorem dksX4_nextParty_3 : cX4_nextParty.data.toList.drop 70 = dktX4_nextParty_3 := dk_seg dksX4_nextParty_2 22 rfl rfl
theorem dksX4_nextParty_4 : cX4_nextParty.data.toList.drop 94 = dktX4_nextParty_4 := dk_seg dksX4_nextParty_3 24 rfl rfl
theorem dX4_nextParty_0 : decode cX4_nextParty 0 = .ok (.aload_n 0, 1) := dk_42 (dk_at dksX4_nextParty_0 0 rfl rfl)
theorem dX4_nextParty_1 : decode cX4_nextParty 1 = .ok (.iconst 0, 1) := dk_3 (dk_at dksX4_nextParty_0 1 rfl rfl)
theorem dX4_nextParty_2 : decode cX4_nextParty 2 = .ok (.putfield 54, 3) := dk_181 0 54 (dk_at dksX4_nextParty_0 2 rfl rfl)
theorem dX4_nextParty_5 : decode cX4_nextParty 5 = .ok (.iconst (-1), 1) := dk_2 (dk_at dksX4_nextParty_0 5 rfl rfl)
theorem dX4_nextParty_6 : decode cX4_nextParty 6 = .ok (.istore_n 1, 1) := dk_60 (dk_at dksX4_nextParty_0 6 rfl rfl)
theorem dX4_nextParty_7 : decode cX4_nextParty 7 = .ok (.iconst 0, 1) := dk_3 (dk_at dksX4_nextParty_0 7 rfl rfl)
theorem dX4_nextParty_8 : decode cX4_nextParty 8 = .ok (.istore_n 2, 1) := dk_61 (dk_at dksX4_nextParty_0 8 rfl rfl)
theorem dX4_nextParty_9 : decode cX4_nextParty 9 = .ok (.iload_n 2, 1) := dk_28 (dk_at dksX4_nextParty_0 9 rfl rfl)
theorem dX4_nextParty_10 : decode cX4_nextParty 10 = .ok (.aload_n 0, 1) := dk_42 (dk_at dksX4_nextParty_0 10 rfl rfl)
theorem dX4_nextParty_11 : decode cX4_nextParty 11 = .ok (.getfield 9, 3) := dk_180 0 9 (dk_at dksX4_nextParty_0 11 rfl rfl)
theorem dX4_nextParty_14 : decode cX4_nextParty 14 = .ok (.iconst 4, 1) := dk_7 (dk_at dksX4_nextParty_0 14 rfl rfl)
theorem dX4_nextParty_15 : decode cX4_nextParty 15 = .ok (.iaload, 1) := dk_46 (dk_at dksX4_nextParty_0 15 rfl rfl)
theorem dX4_nextParty_16 : decode cX4_nextParty 16 = .ok (.if_icmp .ge 65, 3) := dk_162 0 65 (dk_at dksX4_nextParty_0 16 rfl rfl)
theorem dX4_nextParty_19 : decode cX4_nextParty 19 = .ok (.aload_n 0, 1) := dk_42 (dk_at dksX4_nextParty_0 19 rfl rfl)
theorem dX4_nextParty_20 : decode cX4_nextParty 20 = .ok (.getfield 9, 3) := dk_180 0 9 (dk_at dksX4_nextParty_0 20 rfl rfl)
theorem dX4_nextParty_23 : decode cX4_nextParty 23 = .ok (.iload_n 2, 1) := dk_28 (dk_at dksX4_nextParty_0 23 rfl rfl)
theorem dX4_nextParty_24 : decode cX4_nextParty 24 = .ok (.invokestatic 178, 3) := dk_184 0 178 (dk_at dksX4_nextParty_1 0 rfl rfl)
theorem dX4_nextParty_27 : decode cX4_nextParty 27 = .ok (.iconst 2, 1) := dk_5 (dk_at dksX4_nextParty_1 3 rfl rfl)
theorem dX4_nextParty_28 : decode cX4_nextParty 28 = .ok (.iadd, 1) := dk_96 (dk_at dksX4_nextParty_1 4 rfl rfl)
theorem dX4_nextParty_29 : decode cX4_nextParty 29 = .ok (.iaload, 1) := dk_46 (dk_at dksX4_nextParty_1 5 rfl rfl)
theorem dX4_nextParty_30 : decode cX4_nextParty 30 = .ok (.ifCond .ne 33, 3) := dk_154 0 33 (dk_at dksX4_nextParty_1 6 rfl rfl)
theorem dX4_nextParty_33 : decode cX4_nextParty 33 = .ok (.iload_n 1, 1) := dk_27 (dk_at dksX4_nextParty_1 9 rfl rfl)
theorem dX4_nextParty_34 : decode cX4_nextParty 34 = .ok (.iconst (-1), 1) := dk_2 (dk_at dksX4_nextParty_1 10 rfl rfl)
theorem dX4_nextParty_35 : decode cX4_nextParty 35 = .ok (.if_icmp .eq 24, 3) := dk_159 0 24 (dk_at dksX4_nextParty_1 11 rfl rfl)
theorem dX4_nextParty_38 : decode cX4_nextParty 38 = .ok (.aload_n 0, 1) := dk_42 (dk_at dksX4_nextParty_1 14 rfl rfl)
theorem dX4_nextParty_39 : decode cX4_nextParty 39 = .ok (.getfield 9, 3) := dk_180 0 9 (dk_at dksX4_nextParty_1 15 rfl rfl)
theorem dX4_nextParty_42 : decode cX4_nextParty 42 = .ok (.iload_n 2, 1) := dk_28 (dk_at dksX4_nextParty_1 18 rfl rfl)
theorem dX4_nextParty_43 : decode cX4_nextParty 43 = .ok (.invokestatic 178, 3) := dk_184 0 178 (dk_at dksX4_nextParty_1 19 rfl rfl)
theorem dX4_nextParty_46 : decode cX4_nextParty 46 = .ok (.iaload, 1) := dk_46 (dk_at dksX4_nextParty_1 22 rfl rfl)
theorem dX4_nextParty_47 : decode cX4_nextParty 47 = .ok (.aload_n 0, 1) := dk_42 (dk_at dksX4_nextParty_1 23 rfl rfl)
theorem dX4_nextParty_48 : decode cX4_nextParty 48 = .ok (.getfield 9, 3) := dk_180 0 9 (dk_at dksX4_nextParty_2 0 rfl rfl)
theorem dX4_nextParty_51 : decode cX4_nextParty 51 = .ok (.iload_n 1, 1) := dk_27 (dk_at dksX4_nextParty_2 3 rfl rfl)
theorem dX4_nextParty_52 : decode cX4_nextParty 52 = .ok (.invokestatic 178, 3) := dk_184 0 178 (dk_at dksX4_nextParty_2 4 rfl rfl)
theorem dX4_nextParty_55 : decode cX4_nextParty 55 = .ok (.iaload, 1) := dk_46 (dk_at dksX4_nextParty_2 7 rfl rfl)
theorem dX4_nextParty_56 : decode cX4_nextParty 56 = .ok (.if_icmp .ge 7, 3) := dk_162 0 7 (dk_at dksX4_nextParty_2 8 rfl rfl)
theorem dX4_nextParty_59 : decode cX4_nextParty 59 = .ok (.iconst 1, 1) := dk_4 (dk_at dksX4_nextParty_2 11 rfl rfl)
theorem dX4_nextParty_60 : decode cX4_nextParty 60 = .ok (.goto 4, 3) := dk_167 0 4 (dk_at dksX4_nextParty_2 12 rfl rfl)
theorem dX4_nextParty_63 : decode cX4_nextParty 63 = .ok (.iconst 0, 1) := dk_3 (dk_at dksX4_nextParty_2 15 rfl rfl)
theorem dX4_nextParty_64 : decode cX4_nextParty 64 = .ok (.istore_n 3, 1) := dk_62 (dk_at dksX4_nextParty_2 16 rfl rfl)
theorem dX4_nextParty_65 : decode cX4_nextParty 65 = .ok (.iload_n 3, 1) := dk_29 (dk_at dksX4_nextParty_2 17 rfl rfl)
theorem dX4_nextParty_66 : decode cX4_nextParty 66 = .ok (.ifCond .eq 7, 3) := dk_153 0 7 (dk_at dksX4_nextParty_2 18 rfl rfl)
theorem dX4_nextParty_69 : decode cX4_nextParty 69 = .ok (.iload_n 2, 1) := dk_28 (dk_at dksX4_nextParty_2 21 rfl rfl)
theorem dX4_nextParty_70 : decode cX4_nextParty 70 = .ok (.goto 4, 3) := dk_167 0 4 (dk_at dksX4_nextParty_3 0 rfl rfl)
theorem dX4_nextParty_73 : decode cX4_nextParty 73 = .ok (.iload_n 1, 1) := dk_27 (dk_at dksX4_nextParty_3 3 rfl rfl)
theorem dX4_nextParty_74 : decode cX4_nextParty 74 = .ok (.istore_n 1, 1) := dk_60 (dk_at dksX4_nextParty_3 4 rfl rfl)
theorem dX4_nextParty_75 : decode cX4_nextParty 75 = .ok (.iinc 2 1, 3) := dk_132 2 1 (dk_at dksX4_nextParty_3 5 rfl rfl)
theorem dX4_nextParty_78 : decode cX4_nextParty 78 = .ok (.goto (-69), 3) := dk_167 255 187 (dk_at dksX4_nextParty_3 8 rfl rfl)
theorem dX4_nextParty_81 : decode cX4_nextParty 81 = .ok (.iload_n 1, 1) := dk_27 (dk_at dksX4_nextParty_3 11 rfl rfl)
theorem dX4_nextParty_82 : decode cX4_nextParty 82 = .ok (.iconst (-1), 1) := dk_2 (dk_at dksX4_nextParty_3 12 rfl rfl)
theorem dX4_nextParty_83 : decode cX4_nextParty 83 = .ok (.if_icmp .ne 11, 3) := dk_160 0 11 (dk_at dksX4_nextParty_3 13 rfl rfl)
theorem dX4_nextParty_86 : decode cX4_nextParty 86 = .ok (.aload_n 0, 1) := dk_42 (dk_at dksX4_nextParty_3 16 rfl rfl)
theorem dX4_nextParty_87 : decode cX4_nextParty 87 = .ok (.iconst 1, 1) := dk_4 (dk_at dksX4_nextParty_3 17 rfl rfl)
theorem dX4_nextParty_88 : decode cX4_nextParty 88 = .ok (.invokevirtual 60, 3) := dk_182 0 60 (dk_at dksX4_nextParty_3 18 rfl rfl)
theorem dX4_nextParty_91 : decode cX4_nextParty 91 = .ok (.goto 4, 3) := dk_167 0 4 (dk_at dksX4_nextParty_3 21 rfl rfl)
theorem dX4_nextParty_94 : decode cX4_nextParty 94 = .ok (.iload_n 1, 1) := dk_27 (dk_at dksX4_nextParty_4 0 rfl rfl)
theorem dX4_nextParty_95 : decode cX4_nextParty 95 = .ok (.ireturn, 1) := dk_172 (dk_at dksX4_nextParty_4 1 rfl rfl)
abbrev cX4_pass : ByteArray := prog_17_method_64_code
def yX4_pass : MethodName := ⟨RX4, "pass", "(I)I"⟩
def dkwX4_pass_0 : List UInt8 := [42, 182, 0, 79, 42, 42, 27, 182, 0, 207, 182, 0, 85, 172]
abbrev dktX4_pass_0 : List UInt8 := dkwX4_pass_0 ++ []
theorem dksX4_pass_0 : cX4_pass.data.toList.drop 0 = dktX4_pass_0 := by decide +kernel
theorem dX4_pass_0 : decode cX4_pass 0 = .ok (.aload_n 0, 1) := dk_42 (dk_at dksX4_pass_0 0 rfl rfl)
theorem dX4_pass_1 : decode cX4_pass 1 = .ok (.invokevirtual 79, 3) := dk_182 0 79 (dk_at dksX4_pass_0 1 rfl rfl)
theorem dX4_pass_4 : decode cX4_pass 4 = .ok (.aload_n 0, 1) := dk_42 (dk_at dksX4_pass_0 4 rfl rfl)
theorem dX4_pass_5 : decode cX4_pass 5 = .ok (.aload_n 0, 1) := dk_42 (dk_at dksX4_pass_0 5 rfl rfl)
theorem dX4_pass_6 : decode cX4_pass 6 = .ok (.iload_n 1, 1) := dk_27 (dk_at dksX4_pass_0 6 rfl rfl)
theorem dX4_pass_7 : decode cX4_pass 7 = .ok (.invokevirtual 207, 3) := dk_182 0 207 (dk_at dksX4_pass_0 7 rfl rfl)
theorem dX4_pass_10 : decode cX4_pass 10 = .ok (.invokevirtual 85, 3) := dk_182 0 85 (dk_at dksX4_pass_0 10 rfl rfl)
theorem dX4_pass_13 : decode cX4_pass 13 = .ok (.ireturn, 1) := dk_172 (dk_at dksX4_pass_0 13 rfl rfl)
abbrev cX4_passIt : ByteArray := prog_17_method_63_code
def yX4_passIt : MethodName := ⟨RX4, "passIt", "(I)I"⟩
def dkwX4_passIt_1 : List UInt8 := [162, 0, 16, 28, 42, 182, 0, 203, 96, 61, 132, 3, 1, 167, 255, 241, 28, 172]
abbrev dktX4_passIt_1 : List UInt8 := dkwX4_passIt_1 ++ []
def dkwX4_passIt_0 : List UInt8 := [27, 133, 10, 20, 0, 201, 184, 0, 71, 154, 0, 9, 42, 4, 182, 0, 60, 172, 3, 61, 3, 62, 29, 27]
abbrev dktX4_passIt_0 : List UInt8 := dkwX4_passIt_0 ++ dktX4_passIt_1
theorem dksX4_passIt_0 : cX4_passIt.data.toList.drop 0 = dktX4_passIt_0 := by decide +kernel
theorem dksX4_passIt_1 : cX4_passIt.data.toList.drop 24 = dktX4_passIt_1 := dk_seg dksX4_passIt_0 24 rfl rfl
theorem dX4_passIt_0 : decode cX4_passIt 0 = .ok (.iload_n 1, 1) := dk_27 (dk_at dksX4_passIt_0 0 rfl rfl)
theorem dX4_passIt_1 : decode cX4_passIt 1 = .ok (.i2l, 1) := dk_133 (dk_at dksX4_passIt_0 1 rfl rfl)
theorem dX4_passIt_2 : decode cX4_passIt 2 = .ok (.lconst 1, 1) := dk_10 (dk_at dksX4_passIt_0 2 rfl rfl)
theorem dX4_passIt_3 : decode cX4_passIt 3 = .ok (.ldc2_w 201, 3) := dk_20 0 201 (dk_at dksX4_passIt_0 3 rfl rfl)
theorem dX4_passIt_6 : decode cX4_passIt 6 = .ok (.invokestatic 71, 3) := dk_184 0 71 (dk_at dksX4_passIt_0 6 rfl rfl)
theorem dX4_passIt_9 : decode cX4_passIt 9 = .ok (.ifCond .ne 9, 3) := dk_154 0 9 (dk_at dksX4_passIt_0 9 rfl rfl)
theorem dX4_passIt_12 : decode cX4_passIt 12 = .ok (.aload_n 0, 1) := dk_42 (dk_at dksX4_passIt_0 12 rfl rfl)
theorem dX4_passIt_13 : decode cX4_passIt 13 = .ok (.iconst 1, 1) := dk_4 (dk_at dksX4_passIt_0 13 rfl rfl)
theorem dX4_passIt_14 : decode cX4_passIt 14 = .ok (.invokevirtual 60, 3) := dk_182 0 60 (dk_at dksX4_passIt_0 14 rfl rfl)
theorem dX4_passIt_17 : decode cX4_passIt 17 = .ok (.ireturn, 1) := dk_172 (dk_at dksX4_passIt_0 17 rfl rfl)
theorem dX4_passIt_18 : decode cX4_passIt 18 = .ok (.iconst 0, 1) := dk_3 (dk_at dksX4_passIt_0 18 rfl rfl)
theorem dX4_passIt_19 : decode cX4_passIt 19 = .ok (.istore_n 2, 1) := dk_61 (dk_at dksX4_passIt_0 19 rfl rfl)
theorem dX4_passIt_20 : decode cX4_passIt 20 = .ok (.iconst 0, 1) := dk_3 (dk_at dksX4_passIt_0 20 rfl rfl)
theorem dX4_passIt_21 : decode cX4_passIt 21 = .ok (.istore_n 3, 1) := dk_62 (dk_at dksX4_passIt_0 21 rfl rfl)
theorem dX4_passIt_22 : decode cX4_passIt 22 = .ok (.iload_n 3, 1) := dk_29 (dk_at dksX4_passIt_0 22 rfl rfl)
theorem dX4_passIt_23 : decode cX4_passIt 23 = .ok (.iload_n 1, 1) := dk_27 (dk_at dksX4_passIt_0 23 rfl rfl)
theorem dX4_passIt_24 : decode cX4_passIt 24 = .ok (.if_icmp .ge 16, 3) := dk_162 0 16 (dk_at dksX4_passIt_1 0 rfl rfl)
theorem dX4_passIt_27 : decode cX4_passIt 27 = .ok (.iload_n 2, 1) := dk_28 (dk_at dksX4_passIt_1 3 rfl rfl)
theorem dX4_passIt_28 : decode cX4_passIt 28 = .ok (.aload_n 0, 1) := dk_42 (dk_at dksX4_passIt_1 4 rfl rfl)
theorem dX4_passIt_29 : decode cX4_passIt 29 = .ok (.invokevirtual 203, 3) := dk_182 0 203 (dk_at dksX4_passIt_1 5 rfl rfl)
theorem dX4_passIt_32 : decode cX4_passIt 32 = .ok (.iadd, 1) := dk_96 (dk_at dksX4_passIt_1 8 rfl rfl)
theorem dX4_passIt_33 : decode cX4_passIt 33 = .ok (.istore_n 2, 1) := dk_61 (dk_at dksX4_passIt_1 9 rfl rfl)
theorem dX4_passIt_34 : decode cX4_passIt 34 = .ok (.iinc 3 1, 3) := dk_132 3 1 (dk_at dksX4_passIt_1 10 rfl rfl)
theorem dX4_passIt_37 : decode cX4_passIt 37 = .ok (.goto (-15), 3) := dk_167 255 241 (dk_at dksX4_passIt_1 13 rfl rfl)
theorem dX4_passIt_40 : decode cX4_passIt 40 = .ok (.iload_n 2, 1) := dk_28 (dk_at dksX4_passIt_1 16 rfl rfl)
theorem dX4_passIt_41 : decode cX4_passIt 41 = .ok (.ireturn, 1) := dk_172 (dk_at dksX4_passIt_1 17 rfl rfl)
abbrev cX4_minuteGoes : ByteArray := prog_17_method_62_code
def yX4_minuteGoes : MethodName := ⟨RX4, "minuteGoes", "()I"⟩
def dkwX4_minuteGoes_6 : List UInt8 := [27, 172]
abbrev dktX4_minuteGoes_6 : List UInt8 := dkwX4_minuteGoes_6 ++ []
def dkwX4_minuteGoes_5 : List UInt8 := [184, 0, 178, 46, 42, 180, 0, 9, 3, 46, 160, 0, 8, 42, 28, 182, 0, 198, 132, 2, 1, 167, 255, 206]
abbrev dktX4_minuteGoes_5 : List UInt8 := dkwX4_minuteGoes_5 ++ dktX4_minuteGoes_6
def dkwX4_minuteGoes_4 : List UInt8 := [7, 46, 162, 0, 46, 42, 180, 0, 9, 28, 184, 0, 178, 5, 96, 46, 154, 0, 26, 42, 180, 0, 9, 28]
abbrev dktX4_minuteGoes_4 : List UInt8 := dkwX4_minuteGoes_4 ++ dktX4_minuteGoes_5
def dkwX4_minuteGoes_3 : List UInt8 := [60, 132, 2, 1, 167, 255, 235, 42, 180, 0, 9, 3, 92, 46, 4, 96, 79, 3, 61, 28, 42, 180, 0, 9]
abbrev dktX4_minuteGoes_3 : List UInt8 := dkwX4_minuteGoes_3 ++ dktX4_minuteGoes_4
def dkwX4_minuteGoes_2 : List UInt8 := [167, 255, 211, 3, 60, 3, 61, 28, 42, 180, 0, 9, 4, 46, 162, 0, 17, 27, 42, 28, 182, 0, 195, 96]
abbrev dktX4_minuteGoes_2 : List UInt8 := dkwX4_minuteGoes_2 ++ dktX4_minuteGoes_3
def dkwX4_minuteGoes_1 : List UInt8 := [42, 28, 27, 182, 0, 94, 153, 0, 8, 42, 28, 182, 0, 191, 132, 2, 1, 167, 255, 229, 132, 1, 1]
abbrev dktX4_minuteGoes_1 : List UInt8 := dkwX4_minuteGoes_1 ++ dktX4_minuteGoes_2
def dkwX4_minuteGoes_0 : List UInt8 := [3, 60, 27, 42, 180, 0, 9, 4, 46, 162, 0, 41, 3, 61, 28, 42, 180, 0, 9, 5, 46, 162, 0, 23]
abbrev dktX4_minuteGoes_0 : List UInt8 := dkwX4_minuteGoes_0 ++ dktX4_minuteGoes_1
theorem dksX4_minuteGoes_0 : cX4_minuteGoes.data.toList.drop 0 = dktX4_minuteGoes_0 := by decide +kernel
theorem dksX4_minuteGoes_1 : cX4_minuteGoes.data.toList.drop 24 = dktX4_minuteGoes_1 := dk_seg dksX4_minuteGoes_0 24 rfl rfl
theorem dksX4_minuteGoes_2 : cX4_minuteGoes.data.toList.drop 47 = dktX4_minuteGoes_2 := dk_seg dksX4_minuteGoes_1 23 rfl rfl
theorem dksX4_minuteGoes_3 : cX4_minuteGoes.data.toList.drop 71 = dktX4_minuteGoes_3 := dk_seg dksX4_minuteGoes_2 24 rfl rfl
theorem dksX4_minuteGoes_4 : cX4_minuteGoes.data.toList.drop 95 = dktX4_minuteGoes_4 := dk_seg dksX4_minuteGoes_3 24 rfl rfl
theorem dksX4_minuteGoes_5 : cX4_minuteGoes.data.toList.drop 119 = dktX4_minuteGoes_5 := dk_seg dksX4_minuteGoes_4 24 rfl rfl
theorem dksX4_minuteGoes_6 : cX4_minuteGoes.data.toList.drop 143 = dktX4_minuteGoes_6 := dk_seg dksX4_minuteGoes_5 24 rfl rfl
theorem dX4_minuteGoes_0 : decode cX4_minuteGoes 0 = .ok (.iconst 0, 1) := dk_3 (dk_at dksX4_minuteGoes_0 0 rfl rfl)
theorem dX4_minuteGoes_1 : decode cX4_minuteGoes 1 = .ok (.istore_n 1, 1) := dk_60 (dk_at dksX4_minuteGoes_0 1 rfl rfl)
theorem dX4_minuteGoes_2 : decode cX4_minuteGoes 2 = .ok (.iload_n 1, 1) := dk_27 (dk_at dksX4_minuteGoes_0 2 rfl rfl)
theorem dX4_minuteGoes_3 : decode cX4_minuteGoes 3 = .ok (.aload_n 0, 1) := dk_42 (dk_at dksX4_minuteGoes_0 3 rfl rfl)
theorem dX4_minuteGoes_4 : decode cX4_minuteGoes 4 = .ok (.getfield 9, 3) := dk_180 0 9 (dk_at dksX4_minuteGoes_0 4 rfl rfl)
theorem dX4_minuteGoes_7 : decode cX4_minuteGoes 7 = .ok (.iconst 1, 1) := dk_4 (dk_at dksX4_minuteGoes_0 7 rfl rfl)
theorem dX4_minuteGoes_8 : decode cX4_minuteGoes 8 = .ok (.iaload, 1) := dk_46 (dk_at dksX4_minuteGoes_0 8 rfl rfl)
theorem dX4_minuteGoes_9 : decode cX4_minuteGoes 9 = .ok (.if_icmp .ge 41, 3) := dk_162 0 41 (dk_at dksX4_minuteGoes_0 9 rfl rfl)
theorem dX4_minuteGoes_12 : decode cX4_minuteGoes 12 = .ok (.iconst 0, 1) := dk_3 (dk_at dksX4_minuteGoes_0 12 rfl rfl)
theorem dX4_minuteGoes_13 : decode cX4_minuteGoes 13 = .ok (.istore_n 2, 1) := dk_61 (dk_at dksX4_minuteGoes_0 13 rfl rfl)
theorem dX4_minuteGoes_14 : decode cX4_minuteGoes 14 = .ok (.iload_n 2, 1) := dk_28 (dk_at dksX4_minuteGoes_0 14 rfl rfl)
theorem dX4_minuteGoes_15 : decode cX4_minuteGoes 15 = .ok (.aload_n 0, 1) := dk_42 (dk_at dksX4_minuteGoes_0 15 rfl rfl)
theorem dX4_minuteGoes_16 : decode cX4_minuteGoes 16 = .ok (.getfield 9, 3) := dk_180 0 9 (dk_at dksX4_minuteGoes_0 16 rfl rfl)
theorem dX4_minuteGoes_19 : decode cX4_minuteGoes 19 = .ok (.iconst 2, 1) := dk_5 (dk_at dksX4_minuteGoes_0 19 rfl rfl)
theorem dX4_minuteGoes_20 : decode cX4_minuteGoes 20 = .ok (.iaload, 1) := dk_46 (dk_at dksX4_minuteGoes_0 20 rfl rfl)
theorem dX4_minuteGoes_21 : decode cX4_minuteGoes 21 = .ok (.if_icmp .ge 23, 3) := dk_162 0 23 (dk_at dksX4_minuteGoes_0 21 rfl rfl)
theorem dX4_minuteGoes_24 : decode cX4_minuteGoes 24 = .ok (.aload_n 0, 1) := dk_42 (dk_at dksX4_minuteGoes_1 0 rfl rfl)
theorem dX4_minuteGoes_25 : decode cX4_minuteGoes 25 = .ok (.iload_n 2, 1) := dk_28 (dk_at dksX4_minuteGoes_1 1 rfl rfl)
theorem dX4_minuteGoes_26 : decode cX4_minuteGoes 26 = .ok (.iload_n 1, 1) := dk_27 (dk_at dksX4_minuteGoes_1 2 rfl rfl)
theorem dX4_minuteGoes_27 : decode cX4_minuteGoes 27 = .ok (.invokevirtual 94, 3) := dk_182 0 94 (dk_at dksX4_minuteGoes_1 3 rfl rfl)
theorem dX4_minuteGoes_30 : decode cX4_minuteGoes 30 = .ok (.ifCond .eq 8, 3) := dk_153 0 8 (dk_at dksX4_minuteGoes_1 6 rfl rfl)
theorem dX4_minuteGoes_33 : decode cX4_minuteGoes 33 = .ok (.aload_n 0, 1) := dk_42 (dk_at dksX4_minuteGoes_1 9 rfl rfl)
theorem dX4_minuteGoes_34 : decode cX4_minuteGoes 34 = .ok (.iload_n 2, 1) := dk_28 (dk_at dksX4_minuteGoes_1 10 rfl rfl)
theorem dX4_minuteGoes_35 : decode cX4_minuteGoes 35 = .ok (.invokevirtual 191, 3) := dk_182 0 191 (dk_at dksX4_minuteGoes_1 11 rfl rfl)
theorem dX4_minuteGoes_38 : decode cX4_minuteGoes 38 = .ok (.iinc 2 1, 3) := dk_132 2 1 (dk_at dksX4_minuteGoes_1 14 rfl rfl)
theorem dX4_minuteGoes_41 : decode cX4_minuteGoes 41 = .ok (.goto (-27), 3) := dk_167 255 229 (dk_at dksX4_minuteGoes_1 17 rfl rfl)
theorem dX4_minuteGoes_44 : decode cX4_minuteGoes 44 = .ok (.iinc 1 1, 3) := dk_132 1 1 (dk_at dksX4_minuteGoes_1 20 rfl rfl)
theorem dX4_minuteGoes_47 : decode cX4_minuteGoes 47 = .ok (.goto (-45), 3) := dk_167 255 211 (dk_at dksX4_minuteGoes_2 0 rfl rfl)
theorem dX4_minuteGoes_50 : decode cX4_minuteGoes 50 = .ok (.iconst 0, 1) := dk_3 (dk_at dksX4_minuteGoes_2 3 rfl rfl)
theorem dX4_minuteGoes_51 : decode cX4_minuteGoes 51 = .ok (.istore_n 1, 1) := dk_60 (dk_at dksX4_minuteGoes_2 4 rfl rfl)
theorem dX4_minuteGoes_52 : decode cX4_minuteGoes 52 = .ok (.iconst 0, 1) := dk_3 (dk_at dksX4_minuteGoes_2 5 rfl rfl)
theorem dX4_minuteGoes_53 : decode cX4_minuteGoes 53 = .ok (.istore_n 2, 1) := dk_61 (dk_at dksX4_minuteGoes_2 6 rfl rfl)
theorem dX4_minuteGoes_54 : decode cX4_minuteGoes 54 = .ok (.iload_n 2, 1) := dk_28 (dk_at dksX4_minuteGoes_2 7 rfl rfl)
theorem dX4_minuteGoes_55 : decode cX4_minuteGoes 55 = .ok (.aload_n 0, 1) := dk_42 (dk_at dksX4_minuteGoes_2 8 rfl rfl)
theorem dX4_minuteGoes_56 : decode cX4_minuteGoes 56 = .ok (.getfield 9, 3) := dk_180 0 9 (dk_at dksX4_minuteGoes_2 9 rfl rfl)
theorem dX4_minuteGoes_59 : decode cX4_minuteGoes 59 = .ok (.iconst 1, 1) := dk_4 (dk_at dksX4_minuteGoes_2 12 rfl rfl)
theorem dX4_minuteGoes_60 : decode cX4_minuteGoes 60 = .ok (.iaload, 1) := dk_46 (dk_at dksX4_minuteGoes_2 13 rfl rfl)
theorem dX4_minuteGoes_61 : decode cX4_minuteGoes 61 = .ok (.if_icmp .ge 17, 3) := dk_162 0 17 (dk_at dksX4_minuteGoes_2 14 rfl rfl)
theorem dX4_minuteGoes_64 : decode cX4_minuteGoes 64 = .ok (.iload_n 1, 1) := dk_27 (dk_at dksX4_minuteGoes_2 17 rfl rfl)
theorem dX4_minuteGoes_65 : decode cX4_minuteGoes 65 = .ok (.aload_n 0, 1) := dk_42 (dk_at dksX4_minuteGoes_2 18 rfl rfl)
theorem dX4_minuteGoes_66 : decode cX4_minuteGoes 66 = .ok (.iload_n 2, 1) := dk_28 (dk_at dksX4_minuteGoes_2 19 rfl rfl)
theorem dX4_minuteGoes_67 : decode cX4_minuteGoes 67 = .ok (.invokevirtual 195, 3) := dk_182 0 195 (dk_at dksX4_minuteGoes_2 20 rfl rfl)
theorem dX4_minuteGoes_70 : decode cX4_minuteGoes 70 = .ok (.iadd, 1) := dk_96 (dk_at dksX4_minuteGoes_2 23 rfl rfl)
theorem dX4_minuteGoes_71 : decode cX4_minuteGoes 71 = .ok (.istore_n 1, 1) := dk_60 (dk_at dksX4_minuteGoes_3 0 rfl rfl)
theorem dX4_minuteGoes_72 : decode cX4_minuteGoes 72 = .ok (.iinc 2 1, 3) := dk_132 2 1 (dk_at dksX4_minuteGoes_3 1 rfl rfl)
theorem dX4_minuteGoes_75 : decode cX4_minuteGoes 75 = .ok (.goto (-21), 3) := dk_167 255 235 (dk_at dksX4_minuteGoes_3 4 rfl rfl)
theorem dX4_minuteGoes_78 : decode cX4_minuteGoes 78 = .ok (.aload_n 0, 1) := dk_42 (dk_at dksX4_minuteGoes_3 7 rfl rfl)
theorem dX4_minuteGoes_79 : decode cX4_minuteGoes 79 = .ok (.getfield 9, 3) := dk_180 0 9 (dk_at dksX4_minuteGoes_3 8 rfl rfl)
theorem dX4_minuteGoes_82 : decode cX4_minuteGoes 82 = .ok (.iconst 0, 1) := dk_3 (dk_at dksX4_minuteGoes_3 11 rfl rfl)
theorem dX4_minuteGoes_83 : decode cX4_minuteGoes 83 = .ok (.dup2, 1) := dk_92 (dk_at dksX4_minuteGoes_3 12 rfl rfl)
theorem dX4_minuteGoes_84 : decode cX4_minuteGoes 84 = .ok (.iaload, 1) := dk_46 (dk_at dksX4_minuteGoes_3 13 rfl rfl)
theorem dX4_minuteGoes_85 : decode cX4_minuteGoes 85 = .ok (.iconst 1, 1) := dk_4 (dk_at dksX4_minuteGoes_3 14 rfl rfl)
theorem dX4_minuteGoes_86 : decode cX4_minuteGoes 86 = .ok (.iadd, 1) := dk_96 (dk_at dksX4_minuteGoes_3 15 rfl rfl)
theorem dX4_minuteGoes_87 : decode cX4_minuteGoes 87 = .ok (.iastore, 1) := dk_79 (dk_at dksX4_minuteGoes_3 16 rfl rfl)
theorem dX4_minuteGoes_88 : decode cX4_minuteGoes 88 = .ok (.iconst 0, 1) := dk_3 (dk_at dksX4_minuteGoes_3 17 rfl rfl)
theorem dX4_minuteGoes_89 : decode cX4_minuteGoes 89 = .ok (.istore_n 2, 1) := dk_61 (dk_at dksX4_minuteGoes_3 18 rfl rfl)
theorem dX4_minuteGoes_90 : decode cX4_minuteGoes 90 = .ok (.iload_n 2, 1) := dk_28 (dk_at dksX4_minuteGoes_3 19 rfl rfl)
theorem dX4_minuteGoes_91 : decode cX4_minuteGoes 91 = .ok (.aload_n 0, 1) := dk_42 (dk_at dksX4_minuteGoes_3 20 rfl rfl)
theorem dX4_minuteGoes_92 : decode cX4_minuteGoes 92 = .ok (.getfield 9, 3) := dk_180 0 9 (dk_at dksX4_minuteGoes_3 21 rfl rfl)
theorem dX4_minuteGoes_95 : decode cX4_minuteGoes 95 = .ok (.iconst 4, 1) := dk_7 (dk_at dksX4_minuteGoes_4 0 rfl rfl)
theorem dX4_minuteGoes_96 : decode cX4_minuteGoes 96 = .ok (.iaload, 1) := dk_46 (dk_at dksX4_minuteGoes_4 1 rfl rfl)
theorem dX4_minuteGoes_97 : decode cX4_minuteGoes 97 = .ok (.if_icmp .ge 46, 3) := dk_162 0 46 (dk_at dksX4_minuteGoes_4 2 rfl rfl)
theorem dX4_minuteGoes_100 : decode cX4_minuteGoes 100 = .ok (.aload_n 0, 1) := dk_42 (dk_at dksX4_minuteGoes_4 5 rfl rfl)
theorem dX4_minuteGoes_101 : decode cX4_minuteGoes 101 = .ok (.getfield 9, 3) := dk_180 0 9 (dk_at dksX4_minuteGoes_4 6 rfl rfl)
theorem dX4_minuteGoes_104 : decode cX4_minuteGoes 104 = .ok (.iload_n 2, 1) := dk_28 (dk_at dksX4_minuteGoes_4 9 rfl rfl)
theorem dX4_minuteGoes_105 : decode cX4_minuteGoes 105 = .ok (.invokestatic 178, 3) := dk_184 0 178 (dk_at dksX4_minuteGoes_4 10 rfl rfl)
theorem dX4_minuteGoes_108 : decode cX4_minuteGoes 108 = .ok (.iconst 2, 1) := dk_5 (dk_at dksX4_minuteGoes_4 13 rfl rfl)
theorem dX4_minuteGoes_109 : decode cX4_minuteGoes 109 = .ok (.iadd, 1) := dk_96 (dk_at dksX4_minuteGoes_4 14 rfl rfl)
theorem dX4_minuteGoes_110 : decode cX4_minuteGoes 110 = .ok (.iaload, 1) := dk_46 (dk_at dksX4_minuteGoes_4 15 rfl rfl)
theorem dX4_minuteGoes_111 : decode cX4_minuteGoes 111 = .ok (.ifCond .ne 26, 3) := dk_154 0 26 (dk_at dksX4_minuteGoes_4 16 rfl rfl)
theorem dX4_minuteGoes_114 : decode cX4_minuteGoes 114 = .ok (.aload_n 0, 1) := dk_42 (dk_at dksX4_minuteGoes_4 19 rfl rfl)
theorem dX4_minuteGoes_115 : decode cX4_minuteGoes 115 = .ok (.getfield 9, 3) := dk_180 0 9 (dk_at dksX4_minuteGoes_4 20 rfl rfl)
theorem dX4_minuteGoes_118 : decode cX4_minuteGoes 118 = .ok (.iload_n 2, 1) := dk_28 (dk_at dksX4_minuteGoes_4 23 rfl rfl)
theorem dX4_minuteGoes_119 : decode cX4_minuteGoes 119 = .ok (.invokestatic 178, 3) := dk_184 0 178 (dk_at dksX4_minuteGoes_5 0 rfl rfl)
theorem dX4_minuteGoes_122 : decode cX4_minuteGoes 122 = .ok (.iaload, 1) := dk_46 (dk_at dksX4_minuteGoes_5 3 rfl rfl)
theorem dX4_minuteGoes_123 : decode cX4_minuteGoes 123 = .ok (.aload_n 0, 1) := dk_42 (dk_at dksX4_minuteGoes_5 4 rfl rfl)
theorem dX4_minuteGoes_124 : decode cX4_minuteGoes 124 = .ok (.getfield 9, 3) := dk_180 0 9 (dk_at dksX4_minuteGoes_5 5 rfl rfl)
theorem dX4_minuteGoes_127 : decode cX4_minuteGoes 127 = .ok (.iconst 0, 1) := dk_3 (dk_at dksX4_minuteGoes_5 8 rfl rfl)
theorem dX4_minuteGoes_128 : decode cX4_minuteGoes 128 = .ok (.iaload, 1) := dk_46 (dk_at dksX4_minuteGoes_5 9 rfl rfl)
theorem dX4_minuteGoes_129 : decode cX4_minuteGoes 129 = .ok (.if_icmp .ne 8, 3) := dk_160 0 8 (dk_at dksX4_minuteGoes_5 10 rfl rfl)
theorem dX4_minuteGoes_132 : decode cX4_minuteGoes 132 = .ok (.aload_n 0, 1) := dk_42 (dk_at dksX4_minuteGoes_5 13 rfl rfl)
theorem dX4_minuteGoes_133 : decode cX4_minuteGoes 133 = .ok (.iload_n 2, 1) := dk_28 (dk_at dksX4_minuteGoes_5 14 rfl rfl)
theorem dX4_minuteGoes_134 : decode cX4_minuteGoes 134 = .ok (.invokevirtual 198, 3) := dk_182 0 198 (dk_at dksX4_minuteGoes_5 15 rfl rfl)
theorem dX4_minuteGoes_137 : decode cX4_minuteGoes 137 = .ok (.iinc 2 1, 3) := dk_132 2 1 (dk_at dksX4_minuteGoes_5 18 rfl rfl)
theorem dX4_minuteGoes_140 : decode cX4_minuteGoes 140 = .ok (.goto (-50), 3) := dk_167 255 206 (dk_at dksX4_minuteGoes_5 21 rfl rfl)
theorem dX4_minuteGoes_143 : decode cX4_minuteGoes 143 = .ok (.iload_n 1, 1) := dk_27 (dk_at dksX4_minuteGoes_6 0 rfl rfl)
theorem dX4_minuteGoes_144 : decode cX4_minuteGoes 144 = .ok (.ireturn, 1) := dk_172 (dk_at dksX4_minuteGoes_6 1 rfl rfl)
abbrev cX4_jumps : ByteArray := prog_17_method_59_code
def yX4_jumps : MethodName := ⟨RX4, "jumps", "(I)V"⟩
def dkwX4_jumps_4 : List UInt8 := [184, 0, 159, 79, 42, 180, 0, 9, 27, 184, 0, 91, 8, 96, 92, 46, 4, 96, 79, 177]
abbrev dktX4_jumps_4 : List UInt8 := dkwX4_jumps_4 ++ []
def dkwX4_jumps_3 : List UInt8 := [180, 0, 9, 28, 29, 96, 46, 4, 96, 42, 180, 0, 9, 27, 184, 0, 91, 3, 96, 46, 16, 40, 108, 96]
abbrev dktX4_jumps_3 : List UInt8 := dkwX4_jumps_3 ++ dktX4_jumps_4
def dkwX4_jumps_2 : List UInt8 := [21, 4, 167, 0, 4, 29, 62, 132, 4, 1, 167, 255, 219, 42, 180, 0, 9, 28, 29, 96, 16, 9, 42]
abbrev dktX4_jumps_2 : List UInt8 := dkwX4_jumps_2 ++ dktX4_jumps_3
def dkwX4_jumps_1 : List UInt8 := [162, 0, 36, 42, 180, 0, 9, 28, 21, 4, 96, 46, 42, 180, 0, 9, 28, 29, 96, 46, 162, 0, 8]
abbrev dktX4_jumps_1 : List UInt8 := dkwX4_jumps_1 ++ dktX4_jumps_2
def dkwX4_jumps_0 : List UInt8 := [42, 180, 0, 9, 27, 184, 0, 91, 6, 96, 46, 184, 0, 82, 61, 3, 62, 4, 54, 4, 21, 4, 16, 8]
abbrev dktX4_jumps_0 : List UInt8 := dkwX4_jumps_0 ++ dktX4_jumps_1
theorem dksX4_jumps_0 : cX4_jumps.data.toList.drop 0 = dktX4_jumps_0 := by decide +kernel
theorem dksX4_jumps_1 : cX4_jumps.data.toList.drop 24 = dktX4_jumps_1 := dk_seg dksX4_jumps_0 24 rfl rfl
theorem dksX4_jumps_2 : cX4_jumps.data.toList.drop 47 = dktX4_jumps_2 := dk_seg dksX4_jumps_1 23 rfl rfl
theorem dksX4_jumps_3 : cX4_jumps.data.toList.drop 70 = dktX4_jumps_3 := dk_seg dksX4_jumps_2 23 rfl rfl
theorem dksX4_jumps_4 : cX4_jumps.data.toList.drop 94 = dktX4_jumps_4 := dk_seg dksX4_jumps_3 24 rfl rfl
theorem dX4_jumps_0 : decode cX4_jumps 0 = .ok (.aload_n 0, 1) := dk_42 (dk_at dksX4_jumps_0 0 rfl rfl)
theorem dX4_jumps_1 : decode cX4_jumps 1 = .ok (.getfield 9, 3) := dk_180 0 9 (dk_at dksX4_jumps_0 1 rfl rfl)
theorem dX4_jumps_4 : decode cX4_jumps 4 = .ok (.iload_n 1, 1) := dk_27 (dk_at dksX4_jumps_0 4 rfl rfl)
theorem dX4_jumps_5 : decode cX4_jumps 5 = .ok (.invokestatic 91, 3) := dk_184 0 91 (dk_at dksX4_jumps_0 5 rfl rfl)
theorem dX4_jumps_8 : decode cX4_jumps 8 = .ok (.iconst 3, 1) := dk_6 (dk_at dksX4_jumps_0 8 rfl rfl)
theorem dX4_jumps_9 : decode cX4_jumps 9 = .ok (.iadd, 1) := dk_96 (dk_at dksX4_jumps_0 9 rfl rfl)
theorem dX4_jumps_10 : decode cX4_jumps 10 = .ok (.iaload, 1) := dk_46 (dk_at dksX4_jumps_0 10 rfl rfl)
theorem dX4_jumps_11 : decode cX4_jumps 11 = .ok (.invokestatic 82, 3) := dk_184 0 82 (dk_at dksX4_jumps_0 11 rfl rfl)
theorem dX4_jumps_14 : decode cX4_jumps 14 = .ok (.istore_n 2, 1) := dk_61 (dk_at dksX4_jumps_0 14 rfl rfl)
theorem dX4_jumps_15 : decode cX4_jumps 15 = .ok (.iconst 0, 1) := dk_3 (dk_at dksX4_jumps_0 15 rfl rfl)
theorem dX4_jumps_16 : decode cX4_jumps 16 = .ok (.istore_n 3, 1) := dk_62 (dk_at dksX4_jumps_0 16 rfl rfl)
theorem dX4_jumps_17 : decode cX4_jumps 17 = .ok (.iconst 1, 1) := dk_4 (dk_at dksX4_jumps_0 17 rfl rfl)
theorem dX4_jumps_18 : decode cX4_jumps 18 = .ok (.istore 4, 2) := dk_54 4 (dk_at dksX4_jumps_0 18 rfl rfl)
theorem dX4_jumps_20 : decode cX4_jumps 20 = .ok (.iload 4, 2) := dk_21 4 (dk_at dksX4_jumps_0 20 rfl rfl)
theorem dX4_jumps_22 : decode cX4_jumps 22 = .ok (.bipush 8, 2) := dk_16 8 (dk_at dksX4_jumps_0 22 rfl rfl)
theorem dX4_jumps_24 : decode cX4_jumps 24 = .ok (.if_icmp .ge 36, 3) := dk_162 0 36 (dk_at dksX4_jumps_1 0 rfl rfl)
theorem dX4_jumps_27 : decode cX4_jumps 27 = .ok (.aload_n 0, 1) := dk_42 (dk_at dksX4_jumps_1 3 rfl rfl)
theorem dX4_jumps_28 : decode cX4_jumps 28 = .ok (.getfield 9, 3) := dk_180 0 9 (dk_at dksX4_jumps_1 4 rfl rfl)
theorem dX4_jumps_31 : decode cX4_jumps 31 = .ok (.iload_n 2, 1) := dk_28 (dk_at dksX4_jumps_1 7 rfl rfl)
theorem dX4_jumps_32 : decode cX4_jumps 32 = .ok (.iload 4, 2) := dk_21 4 (dk_at dksX4_jumps_1 8 rfl rfl)
theorem dX4_jumps_34 : decode cX4_jumps 34 = .ok (.iadd, 1) := dk_96 (dk_at dksX4_jumps_1 10 rfl rfl)
theorem dX4_jumps_35 : decode cX4_jumps 35 = .ok (.iaload, 1) := dk_46 (dk_at dksX4_jumps_1 11 rfl rfl)
theorem dX4_jumps_36 : decode cX4_jumps 36 = .ok (.aload_n 0, 1) := dk_42 (dk_at dksX4_jumps_1 12 rfl rfl)
theorem dX4_jumps_37 : decode cX4_jumps 37 = .ok (.getfield 9, 3) := dk_180 0 9 (dk_at dksX4_jumps_1 13 rfl rfl)
theorem dX4_jumps_40 : decode cX4_jumps 40 = .ok (.iload_n 2, 1) := dk_28 (dk_at dksX4_jumps_1 16 rfl rfl)
theorem dX4_jumps_41 : decode cX4_jumps 41 = .ok (.iload_n 3, 1) := dk_29 (dk_at dksX4_jumps_1 17 rfl rfl)
theorem dX4_jumps_42 : decode cX4_jumps 42 = .ok (.iadd, 1) := dk_96 (dk_at dksX4_jumps_1 18 rfl rfl)
theorem dX4_jumps_43 : decode cX4_jumps 43 = .ok (.iaload, 1) := dk_46 (dk_at dksX4_jumps_1 19 rfl rfl)
theorem dX4_jumps_44 : decode cX4_jumps 44 = .ok (.if_icmp .ge 8, 3) := dk_162 0 8 (dk_at dksX4_jumps_1 20 rfl rfl)
theorem dX4_jumps_47 : decode cX4_jumps 47 = .ok (.iload 4, 2) := dk_21 4 (dk_at dksX4_jumps_2 0 rfl rfl)
theorem dX4_jumps_49 : decode cX4_jumps 49 = .ok (.goto 4, 3) := dk_167 0 4 (dk_at dksX4_jumps_2 2 rfl rfl)
theorem dX4_jumps_52 : decode cX4_jumps 52 = .ok (.iload_n 3, 1) := dk_29 (dk_at dksX4_jumps_2 5 rfl rfl)
theorem dX4_jumps_53 : decode cX4_jumps 53 = .ok (.istore_n 3, 1) := dk_62 (dk_at dksX4_jumps_2 6 rfl rfl)
theorem dX4_jumps_54 : decode cX4_jumps 54 = .ok (.iinc 4 1, 3) := dk_132 4 1 (dk_at dksX4_jumps_2 7 rfl rfl)
theorem dX4_jumps_57 : decode cX4_jumps 57 = .ok (.goto (-37), 3) := dk_167 255 219 (dk_at dksX4_jumps_2 10 rfl rfl)
theorem dX4_jumps_60 : decode cX4_jumps 60 = .ok (.aload_n 0, 1) := dk_42 (dk_at dksX4_jumps_2 13 rfl rfl)
theorem dX4_jumps_61 : decode cX4_jumps 61 = .ok (.getfield 9, 3) := dk_180 0 9 (dk_at dksX4_jumps_2 14 rfl rfl)
theorem dX4_jumps_64 : decode cX4_jumps 64 = .ok (.iload_n 2, 1) := dk_28 (dk_at dksX4_jumps_2 17 rfl rfl)
theorem dX4_jumps_65 : decode cX4_jumps 65 = .ok (.iload_n 3, 1) := dk_29 (dk_at dksX4_jumps_2 18 rfl rfl)
theorem dX4_jumps_66 : decode cX4_jumps 66 = .ok (.iadd, 1) := dk_96 (dk_at dksX4_jumps_2 19 rfl rfl)
theorem dX4_jumps_67 : decode cX4_jumps 67 = .ok (.bipush 9, 2) := dk_16 9 (dk_at dksX4_jumps_2 20 rfl rfl)
theorem dX4_jumps_69 : decode cX4_jumps 69 = .ok (.aload_n 0, 1) := dk_42 (dk_at dksX4_jumps_2 22 rfl rfl)
theorem dX4_jumps_70 : decode cX4_jumps 70 = .ok (.getfield 9, 3) := dk_180 0 9 (dk_at dksX4_jumps_3 0 rfl rfl)
theorem dX4_jumps_73 : decode cX4_jumps 73 = .ok (.iload_n 2, 1) := dk_28 (dk_at dksX4_jumps_3 3 rfl rfl)
theorem dX4_jumps_74 : decode cX4_jumps 74 = .ok (.iload_n 3, 1) := dk_29 (dk_at dksX4_jumps_3 4 rfl rfl)
theorem dX4_jumps_75 : decode cX4_jumps 75 = .ok (.iadd, 1) := dk_96 (dk_at dksX4_jumps_3 5 rfl rfl)
theorem dX4_jumps_76 : decode cX4_jumps 76 = .ok (.iaload, 1) := dk_46 (dk_at dksX4_jumps_3 6 rfl rfl)
theorem dX4_jumps_77 : decode cX4_jumps 77 = .ok (.iconst 1, 1) := dk_4 (dk_at dksX4_jumps_3 7 rfl rfl)
theorem dX4_jumps_78 : decode cX4_jumps 78 = .ok (.iadd, 1) := dk_96 (dk_at dksX4_jumps_3 8 rfl rfl)
theorem dX4_jumps_79 : decode cX4_jumps 79 = .ok (.aload_n 0, 1) := dk_42 (dk_at dksX4_jumps_3 9 rfl rfl)
theorem dX4_jumps_80 : decode cX4_jumps 80 = .ok (.getfield 9, 3) := dk_180 0 9 (dk_at dksX4_jumps_3 10 rfl rfl)
theorem dX4_jumps_83 : decode cX4_jumps 83 = .ok (.iload_n 1, 1) := dk_27 (dk_at dksX4_jumps_3 13 rfl rfl)
theorem dX4_jumps_84 : decode cX4_jumps 84 = .ok (.invokestatic 91, 3) := dk_184 0 91 (dk_at dksX4_jumps_3 14 rfl rfl)
theorem dX4_jumps_87 : decode cX4_jumps 87 = .ok (.iconst 0, 1) := dk_3 (dk_at dksX4_jumps_3 17 rfl rfl)
theorem dX4_jumps_88 : decode cX4_jumps 88 = .ok (.iadd, 1) := dk_96 (dk_at dksX4_jumps_3 18 rfl rfl)
theorem dX4_jumps_89 : decode cX4_jumps 89 = .ok (.iaload, 1) := dk_46 (dk_at dksX4_jumps_3 19 rfl rfl)
theorem dX4_jumps_90 : decode cX4_jumps 90 = .ok (.bipush 40, 2) := dk_16 40 (dk_at dksX4_jumps_3 20 rfl rfl)
theorem dX4_jumps_92 : decode cX4_jumps 92 = .ok (.idiv, 1) := dk_108 (dk_at dksX4_jumps_3 22 rfl rfl)
theorem dX4_jumps_93 : decode cX4_jumps 93 = .ok (.iadd, 1) := dk_96 (dk_at dksX4_jumps_3 23 rfl rfl)
theorem dX4_jumps_94 : decode cX4_jumps 94 = .ok (.invokestatic 159, 3) := dk_184 0 159 (dk_at dksX4_jumps_4 0 rfl rfl)
theorem dX4_jumps_97 : decode cX4_jumps 97 = .ok (.iastore, 1) := dk_79 (dk_at dksX4_jumps_4 3 rfl rfl)
theorem dX4_jumps_98 : decode cX4_jumps 98 = .ok (.aload_n 0, 1) := dk_42 (dk_at dksX4_jumps_4 4 rfl rfl)
theorem dX4_jumps_99 : decode cX4_jumps 99 = .ok (.getfield 9, 3) := dk_180 0 9 (dk_at dksX4_jumps_4 5 rfl rfl)
theorem dX4_jumps_102 : decode cX4_jumps 102 = .ok (.iload_n 1, 1) := dk_27 (dk_at dksX4_jumps_4 8 rfl rfl)
theorem dX4_jumps_103 : decode cX4_jumps 103 = .ok (.invokestatic 91, 3) := dk_184 0 91 (dk_at dksX4_jumps_4 9 rfl rfl)
theorem dX4_jumps_106 : decode cX4_jumps 106 = .ok (.iconst 5, 1) := dk_8 (dk_at dksX4_jumps_4 12 rfl rfl)
theorem dX4_jumps_107 : decode cX4_jumps 107 = .ok (.iadd, 1) := dk_96 (dk_at dksX4_jumps_4 13 rfl rfl)
theorem dX4_jumps_108 : decode cX4_jumps 108 = .ok (.dup2, 1) := dk_92 (dk_at dksX4_jumps_4 14 rfl rfl)
theorem dX4_jumps_109 : decode cX4_jumps 109 = .ok (.iaload, 1) := dk_46 (dk_at dksX4_jumps_4 15 rfl rfl)
theorem dX4_jumps_110 : decode cX4_jumps 110 = .ok (.iconst 1, 1) := dk_4 (dk_at dksX4_jumps_4 16 rfl rfl)
theorem dX4_jumps_111 : decode cX4_jumps 111 = .ok (.iadd, 1) := dk_96 (dk_at dksX4_jumps_4 17 rfl rfl)
theorem dX4_jumps_112 : decode cX4_jumps 112 = .ok (.iastore, 1) := dk_79 (dk_at dksX4_jumps_4 18 rfl rfl)
theorem dX4_jumps_113 : decode cX4_jumps 113 = .ok (.return_, 1) := dk_177 (dk_at dksX4_jumps_4 19 rfl rfl)
abbrev cX4_sinks : ByteArray := prog_17_method_60_code
def yX4_sinks : MethodName := ⟨RX4, "sinks", "(I)I"⟩
def dkwX4_sinks_4 : List UInt8 := [16, 6, 92, 46, 28, 96, 79, 28, 172]
abbrev dktX4_sinks_4 : List UInt8 := dkwX4_sinks_4 ++ []
def dkwX4_sinks_3 : List UInt8 := [132, 3, 1, 167, 255, 207, 42, 180, 0, 9, 27, 184, 0, 82, 16, 8, 96, 3, 79, 42, 180, 0, 9]
abbrev dktX4_sinks_3 : List UInt8 := dkwX4_sinks_3 ++ dktX4_sinks_4
def dkwX4_sinks_2 : List UInt8 := [184, 0, 91, 5, 96, 3, 79, 42, 180, 0, 9, 29, 184, 0, 91, 6, 96, 2, 79, 132, 2, 1]
abbrev dktX4_sinks_2 : List UInt8 := dkwX4_sinks_2 ++ dktX4_sinks_3
def dkwX4_sinks_1 : List UInt8 := [180, 0, 9, 5, 46, 162, 0, 45, 42, 29, 27, 182, 0, 94, 153, 0, 30, 42, 180, 0, 9, 29]
abbrev dktX4_sinks_1 : List UInt8 := dkwX4_sinks_1 ++ dktX4_sinks_2
def dkwX4_sinks_0 : List UInt8 := [42, 27, 4, 182, 0, 120, 42, 27, 182, 0, 107, 163, 0, 5, 3, 172, 3, 61, 3, 62, 29, 42]
abbrev dktX4_sinks_0 : List UInt8 := dkwX4_sinks_0 ++ dktX4_sinks_1
theorem dksX4_sinks_0 : cX4_sinks.data.toList.drop 0 = dktX4_sinks_0 := by decide +kernel
theorem dksX4_sinks_1 : cX4_sinks.data.toList.drop 22 = dktX4_sinks_1 := dk_seg dksX4_sinks_0 22 rfl rfl
theorem dksX4_sinks_2 : cX4_sinks.data.toList.drop 44 = dktX4_sinks_2 := dk_seg dksX4_sinks_1 22 rfl rfl
theorem dksX4_sinks_3 : cX4_sinks.data.toList.drop 66 = dktX4_sinks_3 := dk_seg dksX4_sinks_2 22 rfl rfl
theorem dksX4_sinks_4 : cX4_sinks.data.toList.drop 89 = dktX4_sinks_4 := dk_seg dksX4_sinks_3 23 rfl rfl
theorem dX4_sinks_0 : decode cX4_sinks 0 = .ok (.aload_n 0, 1) := dk_42 (dk_at dksX4_sinks_0 0 rfl rfl)
theorem dX4_sinks_1 : decode cX4_sinks 1 = .ok (.iload_n 1, 1) := dk_27 (dk_at dksX4_sinks_0 1 rfl rfl)
theorem dX4_sinks_2 : decode cX4_sinks 2 = .ok (.iconst 1, 1) := dk_4 (dk_at dksX4_sinks_0 2 rfl rfl)
theorem dX4_sinks_3 : decode cX4_sinks 3 = .ok (.invokevirtual 120, 3) := dk_182 0 120 (dk_at dksX4_sinks_0 3 rfl rfl)
theorem dX4_sinks_6 : decode cX4_sinks 6 = .ok (.aload_n 0, 1) := dk_42 (dk_at dksX4_sinks_0 6 rfl rfl)
theorem dX4_sinks_7 : decode cX4_sinks 7 = .ok (.iload_n 1, 1) := dk_27 (dk_at dksX4_sinks_0 7 rfl rfl)
theorem dX4_sinks_8 : decode cX4_sinks 8 = .ok (.invokevirtual 107, 3) := dk_182 0 107 (dk_at dksX4_sinks_0 8 rfl rfl)
theorem dX4_sinks_11 : decode cX4_sinks 11 = .ok (.if_icmp .gt 5, 3) := dk_163 0 5 (dk_at dksX4_sinks_0 11 rfl rfl)
theorem dX4_sinks_14 : decode cX4_sinks 14 = .ok (.iconst 0, 1) := dk_3 (dk_at dksX4_sinks_0 14 rfl rfl)
theorem dX4_sinks_15 : decode cX4_sinks 15 = .ok (.ireturn, 1) := dk_172 (dk_at dksX4_sinks_0 15 rfl rfl)
theorem dX4_sinks_16 : decode cX4_sinks 16 = .ok (.iconst 0, 1) := dk_3 (dk_at dksX4_sinks_0 16 rfl rfl)
theorem dX4_sinks_17 : decode cX4_sinks 17 = .ok (.istore_n 2, 1) := dk_61 (dk_at dksX4_sinks_0 17 rfl rfl)
theorem dX4_sinks_18 : decode cX4_sinks 18 = .ok (.iconst 0, 1) := dk_3 (dk_at dksX4_sinks_0 18 rfl rfl)
theorem dX4_sinks_19 : decode cX4_sinks 19 = .ok (.istore_n 3, 1) := dk_62 (dk_at dksX4_sinks_0 19 rfl rfl)
theorem dX4_sinks_20 : decode cX4_sinks 20 = .ok (.iload_n 3, 1) := dk_29 (dk_at dksX4_sinks_0 20 rfl rfl)
theorem dX4_sinks_21 : decode cX4_sinks 21 = .ok (.aload_n 0, 1) := dk_42 (dk_at dksX4_sinks_0 21 rfl rfl)
theorem dX4_sinks_22 : decode cX4_sinks 22 = .ok (.getfield 9, 3) := dk_180 0 9 (dk_at dksX4_sinks_1 0 rfl rfl)
theorem dX4_sinks_25 : decode cX4_sinks 25 = .ok (.iconst 2, 1) := dk_5 (dk_at dksX4_sinks_1 3 rfl rfl)
theorem dX4_sinks_26 : decode cX4_sinks 26 = .ok (.iaload, 1) := dk_46 (dk_at dksX4_sinks_1 4 rfl rfl)
theorem dX4_sinks_27 : decode cX4_sinks 27 = .ok (.if_icmp .ge 45, 3) := dk_162 0 45 (dk_at dksX4_sinks_1 5 rfl rfl)
theorem dX4_sinks_30 : decode cX4_sinks 30 = .ok (.aload_n 0, 1) := dk_42 (dk_at dksX4_sinks_1 8 rfl rfl)
theorem dX4_sinks_31 : decode cX4_sinks 31 = .ok (.iload_n 3, 1) := dk_29 (dk_at dksX4_sinks_1 9 rfl rfl)
theorem dX4_sinks_32 : decode cX4_sinks 32 = .ok (.iload_n 1, 1) := dk_27 (dk_at dksX4_sinks_1 10 rfl rfl)
theorem dX4_sinks_33 : decode cX4_sinks 33 = .ok (.invokevirtual 94, 3) := dk_182 0 94 (dk_at dksX4_sinks_1 11 rfl rfl)
theorem dX4_sinks_36 : decode cX4_sinks 36 = .ok (.ifCond .eq 30, 3) := dk_153 0 30 (dk_at dksX4_sinks_1 14 rfl rfl)
theorem dX4_sinks_39 : decode cX4_sinks 39 = .ok (.aload_n 0, 1) := dk_42 (dk_at dksX4_sinks_1 17 rfl rfl)
theorem dX4_sinks_40 : decode cX4_sinks 40 = .ok (.getfield 9, 3) := dk_180 0 9 (dk_at dksX4_sinks_1 18 rfl rfl)
theorem dX4_sinks_43 : decode cX4_sinks 43 = .ok (.iload_n 3, 1) := dk_29 (dk_at dksX4_sinks_1 21 rfl rfl)
theorem dX4_sinks_44 : decode cX4_sinks 44 = .ok (.invokestatic 91, 3) := dk_184 0 91 (dk_at dksX4_sinks_2 0 rfl rfl)
theorem dX4_sinks_47 : decode cX4_sinks 47 = .ok (.iconst 2, 1) := dk_5 (dk_at dksX4_sinks_2 3 rfl rfl)
theorem dX4_sinks_48 : decode cX4_sinks 48 = .ok (.iadd, 1) := dk_96 (dk_at dksX4_sinks_2 4 rfl rfl)
theorem dX4_sinks_49 : decode cX4_sinks 49 = .ok (.iconst 0, 1) := dk_3 (dk_at dksX4_sinks_2 5 rfl rfl)
theorem dX4_sinks_50 : decode cX4_sinks 50 = .ok (.iastore, 1) := dk_79 (dk_at dksX4_sinks_2 6 rfl rfl)
theorem dX4_sinks_51 : decode cX4_sinks 51 = .ok (.aload_n 0, 1) := dk_42 (dk_at dksX4_sinks_2 7 rfl rfl)
theorem dX4_sinks_52 : decode cX4_sinks 52 = .ok (.getfield 9, 3) := dk_180 0 9 (dk_at dksX4_sinks_2 8 rfl rfl)
theorem dX4_sinks_55 : decode cX4_sinks 55 = .ok (.iload_n 3, 1) := dk_29 (dk_at dksX4_sinks_2 11 rfl rfl)
theorem dX4_sinks_56 : decode cX4_sinks 56 = .ok (.invokestatic 91, 3) := dk_184 0 91 (dk_at dksX4_sinks_2 12 rfl rfl)
theorem dX4_sinks_59 : decode cX4_sinks 59 = .ok (.iconst 3, 1) := dk_6 (dk_at dksX4_sinks_2 15 rfl rfl)
theorem dX4_sinks_60 : decode cX4_sinks 60 = .ok (.iadd, 1) := dk_96 (dk_at dksX4_sinks_2 16 rfl rfl)
theorem dX4_sinks_61 : decode cX4_sinks 61 = .ok (.iconst (-1), 1) := dk_2 (dk_at dksX4_sinks_2 17 rfl rfl)
theorem dX4_sinks_62 : decode cX4_sinks 62 = .ok (.iastore, 1) := dk_79 (dk_at dksX4_sinks_2 18 rfl rfl)
theorem dX4_sinks_63 : decode cX4_sinks 63 = .ok (.iinc 2 1, 3) := dk_132 2 1 (dk_at dksX4_sinks_2 19 rfl rfl)
theorem dX4_sinks_66 : decode cX4_sinks 66 = .ok (.iinc 3 1, 3) := dk_132 3 1 (dk_at dksX4_sinks_3 0 rfl rfl)
theorem dX4_sinks_69 : decode cX4_sinks 69 = .ok (.goto (-49), 3) := dk_167 255 207 (dk_at dksX4_sinks_3 3 rfl rfl)
theorem dX4_sinks_72 : decode cX4_sinks 72 = .ok (.aload_n 0, 1) := dk_42 (dk_at dksX4_sinks_3 6 rfl rfl)
theorem dX4_sinks_73 : decode cX4_sinks 73 = .ok (.getfield 9, 3) := dk_180 0 9 (dk_at dksX4_sinks_3 7 rfl rfl)
theorem dX4_sinks_76 : decode cX4_sinks 76 = .ok (.iload_n 1, 1) := dk_27 (dk_at dksX4_sinks_3 10 rfl rfl)
theorem dX4_sinks_77 : decode cX4_sinks 77 = .ok (.invokestatic 82, 3) := dk_184 0 82 (dk_at dksX4_sinks_3 11 rfl rfl)
theorem dX4_sinks_80 : decode cX4_sinks 80 = .ok (.bipush 8, 2) := dk_16 8 (dk_at dksX4_sinks_3 14 rfl rfl)
theorem dX4_sinks_82 : decode cX4_sinks 82 = .ok (.iadd, 1) := dk_96 (dk_at dksX4_sinks_3 16 rfl rfl)
theorem dX4_sinks_83 : decode cX4_sinks 83 = .ok (.iconst 0, 1) := dk_3 (dk_at dksX4_sinks_3 17 rfl rfl)
theorem dX4_sinks_84 : decode cX4_sinks 84 = .ok (.iastore, 1) := dk_79 (dk_at dksX4_sinks_3 18 rfl rfl)
theorem dX4_sinks_85 : decode cX4_sinks 85 = .ok (.aload_n 0, 1) := dk_42 (dk_at dksX4_sinks_3 19 rfl rfl)
theorem dX4_sinks_86 : decode cX4_sinks 86 = .ok (.getfield 9, 3) := dk_180 0 9 (dk_at dksX4_sinks_3 20 rfl rfl)
theorem dX4_sinks_89 : decode cX4_sinks 89 = .ok (.bipush 6, 2) := dk_16 6 (dk_at dksX4_sinks_4 0 rfl rfl)
theorem dX4_sinks_91 : decode cX4_sinks 91 = .ok (.dup2, 1) := dk_92 (dk_at dksX4_sinks_4 2 rfl rfl)
theorem dX4_sinks_92 : decode cX4_sinks 92 = .ok (.iaload, 1) := dk_46 (dk_at dksX4_sinks_4 3 rfl rfl)
theorem dX4_sinks_93 : decode cX4_sinks 93 = .ok (.iload_n 2, 1) := dk_28 (dk_at dksX4_sinks_4 4 rfl rfl)
theorem dX4_sinks_94 : decode cX4_sinks 94 = .ok (.iadd, 1) := dk_96 (dk_at dksX4_sinks_4 5 rfl rfl)
theorem dX4_sinks_95 : decode cX4_sinks 95 = .ok (.iastore, 1) := dk_79 (dk_at dksX4_sinks_4 6 rfl rfl)
theorem dX4_sinks_96 : decode cX4_sinks 96 = .ok (.iload_n 2, 1) := dk_28 (dk_at dksX4_sinks_4 7 rfl rfl)
theorem dX4_sinks_97 : decode cX4_sinks 97 = .ok (.ireturn, 1) := dk_172 (dk_at dksX4_sinks_4 8 rfl rfl)
abbrev cX4_partyComes : ByteArray := prog_17_method_61_code
def yX4_partyComes : MethodName := ⟨RX4, "partyComes", "(I)V"⟩
def dkwX4_partyComes_3 : List UInt8 := [79, 132, 3, 1, 167, 255, 196, 177]
abbrev dktX4_partyComes_3 : List UInt8 := dkwX4_partyComes_3 ++ []
def dkwX4_partyComes_2 : List UInt8 := [42, 180, 0, 9, 28, 8, 96, 46, 27, 182, 0, 131, 87, 42, 180, 0, 9, 28, 6, 96, 92, 46, 4, 96]
abbrev dktX4_partyComes_2 : List UInt8 := dkwX4_partyComes_2 ++ dktX4_partyComes_3
def dkwX4_partyComes_1 : List UInt8 := [46, 162, 0, 54, 42, 180, 0, 9, 5, 46, 16, 12, 162, 0, 43, 42, 42, 180, 0, 9, 28, 7, 96, 46]
abbrev dktX4_partyComes_1 : List UInt8 := dkwX4_partyComes_1 ++ dktX4_partyComes_2
def dkwX4_partyComes_0 : List UInt8 := [27, 184, 0, 178, 61, 42, 180, 0, 9, 28, 5, 96, 4, 79, 3, 62, 29, 42, 180, 0, 9, 28, 4, 96]
abbrev dktX4_partyComes_0 : List UInt8 := dkwX4_partyComes_0 ++ dktX4_partyComes_1
theorem dksX4_partyComes_0 : cX4_partyComes.data.toList.drop 0 = dktX4_partyComes_0 := by decide +kernel
theorem dksX4_partyComes_1 : cX4_partyComes.data.toList.drop 24 = dktX4_partyComes_1 := dk_seg dksX4_partyComes_0 24 rfl rfl
theorem dksX4_partyComes_2 : cX4_partyComes.data.toList.drop 48 = dktX4_partyComes_2 := dk_seg dksX4_partyComes_1 24 rfl rfl
theorem dksX4_partyComes_3 : cX4_partyComes.data.toList.drop 72 = dktX4_partyComes_3 := dk_seg dksX4_partyComes_2 24 rfl rfl
theorem dX4_partyComes_0 : decode cX4_partyComes 0 = .ok (.iload_n 1, 1) := dk_27 (dk_at dksX4_partyComes_0 0 rfl rfl)
theorem dX4_partyComes_1 : decode cX4_partyComes 1 = .ok (.invokestatic 178, 3) := dk_184 0 178 (dk_at dksX4_partyComes_0 1 rfl rfl)
theorem dX4_partyComes_4 : decode cX4_partyComes 4 = .ok (.istore_n 2, 1) := dk_61 (dk_at dksX4_partyComes_0 4 rfl rfl)
theorem dX4_partyComes_5 : decode cX4_partyComes 5 = .ok (.aload_n 0, 1) := dk_42 (dk_at dksX4_partyComes_0 5 rfl rfl)
theorem dX4_partyComes_6 : decode cX4_partyComes 6 = .ok (.getfield 9, 3) := dk_180 0 9 (dk_at dksX4_partyComes_0 6 rfl rfl)
theorem dX4_partyComes_9 : decode cX4_partyComes 9 = .ok (.iload_n 2, 1) := dk_28 (dk_at dksX4_partyComes_0 9 rfl rfl)
theorem dX4_partyComes_10 : decode cX4_partyComes 10 = .ok (.iconst 2, 1) := dk_5 (dk_at dksX4_partyComes_0 10 rfl rfl)
theorem dX4_partyComes_11 : decode cX4_partyComes 11 = .ok (.iadd, 1) := dk_96 (dk_at dksX4_partyComes_0 11 rfl rfl)
theorem dX4_partyComes_12 : decode cX4_partyComes 12 = .ok (.iconst 1, 1) := dk_4 (dk_at dksX4_partyComes_0 12 rfl rfl)
theorem dX4_partyComes_13 : decode cX4_partyComes 13 = .ok (.iastore, 1) := dk_79 (dk_at dksX4_partyComes_0 13 rfl rfl)
theorem dX4_partyComes_14 : decode cX4_partyComes 14 = .ok (.iconst 0, 1) := dk_3 (dk_at dksX4_partyComes_0 14 rfl rfl)
theorem dX4_partyComes_15 : decode cX4_partyComes 15 = .ok (.istore_n 3, 1) := dk_62 (dk_at dksX4_partyComes_0 15 rfl rfl)
theorem dX4_partyComes_16 : decode cX4_partyComes 16 = .ok (.iload_n 3, 1) := dk_29 (dk_at dksX4_partyComes_0 16 rfl rfl)
theorem dX4_partyComes_17 : decode cX4_partyComes 17 = .ok (.aload_n 0, 1) := dk_42 (dk_at dksX4_partyComes_0 17 rfl rfl)
theorem dX4_partyComes_18 : decode cX4_partyComes 18 = .ok (.getfield 9, 3) := dk_180 0 9 (dk_at dksX4_partyComes_0 18 rfl rfl)
theorem dX4_partyComes_21 : decode cX4_partyComes 21 = .ok (.iload_n 2, 1) := dk_28 (dk_at dksX4_partyComes_0 21 rfl rfl)
theorem dX4_partyComes_22 : decode cX4_partyComes 22 = .ok (.iconst 1, 1) := dk_4 (dk_at dksX4_partyComes_0 22 rfl rfl)
theorem dX4_partyComes_23 : decode cX4_partyComes 23 = .ok (.iadd, 1) := dk_96 (dk_at dksX4_partyComes_0 23 rfl rfl)
theorem dX4_partyComes_24 : decode cX4_partyComes 24 = .ok (.iaload, 1) := dk_46 (dk_at dksX4_partyComes_1 0 rfl rfl)
theorem dX4_partyComes_25 : decode cX4_partyComes 25 = .ok (.if_icmp .ge 54, 3) := dk_162 0 54 (dk_at dksX4_partyComes_1 1 rfl rfl)
theorem dX4_partyComes_28 : decode cX4_partyComes 28 = .ok (.aload_n 0, 1) := dk_42 (dk_at dksX4_partyComes_1 4 rfl rfl)
theorem dX4_partyComes_29 : decode cX4_partyComes 29 = .ok (.getfield 9, 3) := dk_180 0 9 (dk_at dksX4_partyComes_1 5 rfl rfl)
theorem dX4_partyComes_32 : decode cX4_partyComes 32 = .ok (.iconst 2, 1) := dk_5 (dk_at dksX4_partyComes_1 8 rfl rfl)
theorem dX4_partyComes_33 : decode cX4_partyComes 33 = .ok (.iaload, 1) := dk_46 (dk_at dksX4_partyComes_1 9 rfl rfl)
theorem dX4_partyComes_34 : decode cX4_partyComes 34 = .ok (.bipush 12, 2) := dk_16 12 (dk_at dksX4_partyComes_1 10 rfl rfl)
theorem dX4_partyComes_36 : decode cX4_partyComes 36 = .ok (.if_icmp .ge 43, 3) := dk_162 0 43 (dk_at dksX4_partyComes_1 12 rfl rfl)
theorem dX4_partyComes_39 : decode cX4_partyComes 39 = .ok (.aload_n 0, 1) := dk_42 (dk_at dksX4_partyComes_1 15 rfl rfl)
theorem dX4_partyComes_40 : decode cX4_partyComes 40 = .ok (.aload_n 0, 1) := dk_42 (dk_at dksX4_partyComes_1 16 rfl rfl)
theorem dX4_partyComes_41 : decode cX4_partyComes 41 = .ok (.getfield 9, 3) := dk_180 0 9 (dk_at dksX4_partyComes_1 17 rfl rfl)
theorem dX4_partyComes_44 : decode cX4_partyComes 44 = .ok (.iload_n 2, 1) := dk_28 (dk_at dksX4_partyComes_1 20 rfl rfl)
theorem dX4_partyComes_45 : decode cX4_partyComes 45 = .ok (.iconst 4, 1) := dk_7 (dk_at dksX4_partyComes_1 21 rfl rfl)
theorem dX4_partyComes_46 : decode cX4_partyComes 46 = .ok (.iadd, 1) := dk_96 (dk_at dksX4_partyComes_1 22 rfl rfl)
theorem dX4_partyComes_47 : decode cX4_partyComes 47 = .ok (.iaload, 1) := dk_46 (dk_at dksX4_partyComes_1 23 rfl rfl)
theorem dX4_partyComes_48 : decode cX4_partyComes 48 = .ok (.aload_n 0, 1) := dk_42 (dk_at dksX4_partyComes_2 0 rfl rfl)
theorem dX4_partyComes_49 : decode cX4_partyComes 49 = .ok (.getfield 9, 3) := dk_180 0 9 (dk_at dksX4_partyComes_2 1 rfl rfl)
theorem dX4_partyComes_52 : decode cX4_partyComes 52 = .ok (.iload_n 2, 1) := dk_28 (dk_at dksX4_partyComes_2 4 rfl rfl)
theorem dX4_partyComes_53 : decode cX4_partyComes 53 = .ok (.iconst 5, 1) := dk_8 (dk_at dksX4_partyComes_2 5 rfl rfl)
theorem dX4_partyComes_54 : decode cX4_partyComes 54 = .ok (.iadd, 1) := dk_96 (dk_at dksX4_partyComes_2 6 rfl rfl)
theorem dX4_partyComes_55 : decode cX4_partyComes 55 = .ok (.iaload, 1) := dk_46 (dk_at dksX4_partyComes_2 7 rfl rfl)
theorem dX4_partyComes_56 : decode cX4_partyComes 56 = .ok (.iload_n 1, 1) := dk_27 (dk_at dksX4_partyComes_2 8 rfl rfl)
theorem dX4_partyComes_57 : decode cX4_partyComes 57 = .ok (.invokevirtual 131, 3) := dk_182 0 131 (dk_at dksX4_partyComes_2 9 rfl rfl)
theorem dX4_partyComes_60 : decode cX4_partyComes 60 = .ok (.pop, 1) := dk_87 (dk_at dksX4_partyComes_2 12 rfl rfl)
theorem dX4_partyComes_61 : decode cX4_partyComes 61 = .ok (.aload_n 0, 1) := dk_42 (dk_at dksX4_partyComes_2 13 rfl rfl)
theorem dX4_partyComes_62 : decode cX4_partyComes 62 = .ok (.getfield 9, 3) := dk_180 0 9 (dk_at dksX4_partyComes_2 14 rfl rfl)
theorem dX4_partyComes_65 : decode cX4_partyComes 65 = .ok (.iload_n 2, 1) := dk_28 (dk_at dksX4_partyComes_2 17 rfl rfl)
theorem dX4_partyComes_66 : decode cX4_partyComes 66 = .ok (.iconst 3, 1) := dk_6 (dk_at dksX4_partyComes_2 18 rfl rfl)
theorem dX4_partyComes_67 : decode cX4_partyComes 67 = .ok (.iadd, 1) := dk_96 (dk_at dksX4_partyComes_2 19 rfl rfl)
theorem dX4_partyComes_68 : decode cX4_partyComes 68 = .ok (.dup2, 1) := dk_92 (dk_at dksX4_partyComes_2 20 rfl rfl)
theorem dX4_partyComes_69 : decode cX4_partyComes 69 = .ok (.iaload, 1) := dk_46 (dk_at dksX4_partyComes_2 21 rfl rfl)
theorem dX4_partyComes_70 : decode cX4_partyComes 70 = .ok (.iconst 1, 1) := dk_4 (dk_at dksX4_partyComes_2 22 rfl rfl)
theorem dX4_partyComes_71 : decode cX4_partyComes 71 = .ok (.iadd, 1) := dk_96 (dk_at dksX4_partyComes_2 23 rfl rfl)
theorem dX4_partyComes_72 : decode cX4_partyComes 72 = .ok (.iastore, 1) := dk_79 (dk_at dksX4_partyComes_3 0 rfl rfl)
theorem dX4_partyComes_73 : decode cX4_partyComes 73 = .ok (.iinc 3 1, 3) := dk_132 3 1 (dk_at dksX4_partyComes_3 1 rfl rfl)
theorem dX4_partyComes_76 : decode cX4_partyComes 76 = .ok (.goto (-60), 3) := dk_167 255 196 (dk_at dksX4_partyComes_3 4 rfl rfl)
theorem dX4_partyComes_79 : decode cX4_partyComes 79 = .ok (.return_, 1) := dk_177 (dk_at dksX4_partyComes_3 7 rfl rfl)
abbrev cX4_lasts : ByteArray := prog_17_method_65_code
def yX4_lasts : MethodName := ⟨RX4, "lasts", "(I)I"⟩
def dkwX4_lasts_4 : List UInt8 := [29, 42, 180, 0, 16, 29, 46, 79, 132, 3, 1, 167, 255, 234, 28, 172]
abbrev dktX4_lasts_4 : List UInt8 := dkwX4_lasts_4 ++ []
def dkwX4_lasts_3 : List UInt8 := [42, 182, 0, 203, 87, 132, 2, 1, 167, 255, 239, 3, 62, 29, 17, 1, 50, 162, 0, 21, 42, 180, 0, 9]
abbrev dktX4_lasts_3 : List UInt8 := dkwX4_lasts_3 ++ dktX4_lasts_4
def dkwX4_lasts_2 : List UInt8 := [42, 180, 0, 9, 28, 46, 79, 132, 2, 1, 167, 255, 234, 3, 61, 42, 27, 182, 0, 104, 2, 159, 0, 14]
abbrev dktX4_lasts_2 : List UInt8 := dkwX4_lasts_2 ++ dktX4_lasts_3
def dkwX4_lasts_1 : List UInt8 := [2, 160, 0, 9, 42, 5, 182, 0, 60, 172, 3, 61, 28, 17, 1, 50, 162, 0, 21, 42, 180, 0, 16, 28]
abbrev dktX4_lasts_1 : List UInt8 := dkwX4_lasts_1 ++ dktX4_lasts_2
def dkwX4_lasts_0 : List UInt8 := [42, 3, 181, 0, 54, 42, 27, 182, 0, 98, 154, 0, 9, 42, 4, 182, 0, 60, 172, 42, 27, 182, 0, 104]
abbrev dktX4_lasts_0 : List UInt8 := dkwX4_lasts_0 ++ dktX4_lasts_1
theorem dksX4_lasts_0 : cX4_lasts.data.toList.drop 0 = dktX4_lasts_0 := by decide +kernel
theorem dksX4_lasts_1 : cX4_lasts.data.toList.drop 24 = dktX4_lasts_1 := dk_seg dksX4_lasts_0 24 rfl rfl
theorem dksX4_lasts_2 : cX4_lasts.data.toList.drop 48 = dktX4_lasts_2 := dk_seg dksX4_lasts_1 24 rfl rfl
theorem dksX4_lasts_3 : cX4_lasts.data.toList.drop 72 = dktX4_lasts_3 := dk_seg dksX4_lasts_2 24 rfl rfl
theorem dksX4_lasts_4 : cX4_lasts.data.toList.drop 96 = dktX4_lasts_4 := dk_seg dksX4_lasts_3 24 rfl rfl
theorem dX4_lasts_0 : decode cX4_lasts 0 = .ok (.aload_n 0, 1) := dk_42 (dk_at dksX4_lasts_0 0 rfl rfl)
theorem dX4_lasts_1 : decode cX4_lasts 1 = .ok (.iconst 0, 1) := dk_3 (dk_at dksX4_lasts_0 1 rfl rfl)
theorem dX4_lasts_2 : decode cX4_lasts 2 = .ok (.putfield 54, 3) := dk_181 0 54 (dk_at dksX4_lasts_0 2 rfl rfl)
theorem dX4_lasts_5 : decode cX4_lasts 5 = .ok (.aload_n 0, 1) := dk_42 (dk_at dksX4_lasts_0 5 rfl rfl)
theorem dX4_lasts_6 : decode cX4_lasts 6 = .ok (.iload_n 1, 1) := dk_27 (dk_at dksX4_lasts_0 6 rfl rfl)
theorem dX4_lasts_7 : decode cX4_lasts 7 = .ok (.invokevirtual 98, 3) := dk_182 0 98 (dk_at dksX4_lasts_0 7 rfl rfl)
theorem dX4_lasts_10 : decode cX4_lasts 10 = .ok (.ifCond .ne 9, 3) := dk_154 0 9 (dk_at dksX4_lasts_0 10 rfl rfl)
theorem dX4_lasts_13 : decode cX4_lasts 13 = .ok (.aload_n 0, 1) := dk_42 (dk_at dksX4_lasts_0 13 rfl rfl)
theorem dX4_lasts_14 : decode cX4_lasts 14 = .ok (.iconst 1, 1) := dk_4 (dk_at dksX4_lasts_0 14 rfl rfl)
theorem dX4_lasts_15 : decode cX4_lasts 15 = .ok (.invokevirtual 60, 3) := dk_182 0 60 (dk_at dksX4_lasts_0 15 rfl rfl)
theorem dX4_lasts_18 : decode cX4_lasts 18 = .ok (.ireturn, 1) := dk_172 (dk_at dksX4_lasts_0 18 rfl rfl)
theorem dX4_lasts_19 : decode cX4_lasts 19 = .ok (.aload_n 0, 1) := dk_42 (dk_at dksX4_lasts_0 19 rfl rfl)
theorem dX4_lasts_20 : decode cX4_lasts 20 = .ok (.iload_n 1, 1) := dk_27 (dk_at dksX4_lasts_0 20 rfl rfl)
theorem dX4_lasts_21 : decode cX4_lasts 21 = .ok (.invokevirtual 104, 3) := dk_182 0 104 (dk_at dksX4_lasts_0 21 rfl rfl)
theorem dX4_lasts_24 : decode cX4_lasts 24 = .ok (.iconst (-1), 1) := dk_2 (dk_at dksX4_lasts_1 0 rfl rfl)
theorem dX4_lasts_25 : decode cX4_lasts 25 = .ok (.if_icmp .ne 9, 3) := dk_160 0 9 (dk_at dksX4_lasts_1 1 rfl rfl)
theorem dX4_lasts_28 : decode cX4_lasts 28 = .ok (.aload_n 0, 1) := dk_42 (dk_at dksX4_lasts_1 4 rfl rfl)
theorem dX4_lasts_29 : decode cX4_lasts 29 = .ok (.iconst 2, 1) := dk_5 (dk_at dksX4_lasts_1 5 rfl rfl)
theorem dX4_lasts_30 : decode cX4_lasts 30 = .ok (.invokevirtual 60, 3) := dk_182 0 60 (dk_at dksX4_lasts_1 6 rfl rfl)
theorem dX4_lasts_33 : decode cX4_lasts 33 = .ok (.ireturn, 1) := dk_172 (dk_at dksX4_lasts_1 9 rfl rfl)
theorem dX4_lasts_34 : decode cX4_lasts 34 = .ok (.iconst 0, 1) := dk_3 (dk_at dksX4_lasts_1 10 rfl rfl)
theorem dX4_lasts_35 : decode cX4_lasts 35 = .ok (.istore_n 2, 1) := dk_61 (dk_at dksX4_lasts_1 11 rfl rfl)
theorem dX4_lasts_36 : decode cX4_lasts 36 = .ok (.iload_n 2, 1) := dk_28 (dk_at dksX4_lasts_1 12 rfl rfl)
theorem dX4_lasts_37 : decode cX4_lasts 37 = .ok (.sipush 306, 3) := dk_17 1 50 (dk_at dksX4_lasts_1 13 rfl rfl)
theorem dX4_lasts_40 : decode cX4_lasts 40 = .ok (.if_icmp .ge 21, 3) := dk_162 0 21 (dk_at dksX4_lasts_1 16 rfl rfl)
theorem dX4_lasts_43 : decode cX4_lasts 43 = .ok (.aload_n 0, 1) := dk_42 (dk_at dksX4_lasts_1 19 rfl rfl)
theorem dX4_lasts_44 : decode cX4_lasts 44 = .ok (.getfield 16, 3) := dk_180 0 16 (dk_at dksX4_lasts_1 20 rfl rfl)
theorem dX4_lasts_47 : decode cX4_lasts 47 = .ok (.iload_n 2, 1) := dk_28 (dk_at dksX4_lasts_1 23 rfl rfl)
theorem dX4_lasts_48 : decode cX4_lasts 48 = .ok (.aload_n 0, 1) := dk_42 (dk_at dksX4_lasts_2 0 rfl rfl)
theorem dX4_lasts_49 : decode cX4_lasts 49 = .ok (.getfield 9, 3) := dk_180 0 9 (dk_at dksX4_lasts_2 1 rfl rfl)
theorem dX4_lasts_52 : decode cX4_lasts 52 = .ok (.iload_n 2, 1) := dk_28 (dk_at dksX4_lasts_2 4 rfl rfl)
theorem dX4_lasts_53 : decode cX4_lasts 53 = .ok (.iaload, 1) := dk_46 (dk_at dksX4_lasts_2 5 rfl rfl)
theorem dX4_lasts_54 : decode cX4_lasts 54 = .ok (.iastore, 1) := dk_79 (dk_at dksX4_lasts_2 6 rfl rfl)
theorem dX4_lasts_55 : decode cX4_lasts 55 = .ok (.iinc 2 1, 3) := dk_132 2 1 (dk_at dksX4_lasts_2 7 rfl rfl)
theorem dX4_lasts_58 : decode cX4_lasts 58 = .ok (.goto (-22), 3) := dk_167 255 234 (dk_at dksX4_lasts_2 10 rfl rfl)
theorem dX4_lasts_61 : decode cX4_lasts 61 = .ok (.iconst 0, 1) := dk_3 (dk_at dksX4_lasts_2 13 rfl rfl)
theorem dX4_lasts_62 : decode cX4_lasts 62 = .ok (.istore_n 2, 1) := dk_61 (dk_at dksX4_lasts_2 14 rfl rfl)
theorem dX4_lasts_63 : decode cX4_lasts 63 = .ok (.aload_n 0, 1) := dk_42 (dk_at dksX4_lasts_2 15 rfl rfl)
theorem dX4_lasts_64 : decode cX4_lasts 64 = .ok (.iload_n 1, 1) := dk_27 (dk_at dksX4_lasts_2 16 rfl rfl)
theorem dX4_lasts_65 : decode cX4_lasts 65 = .ok (.invokevirtual 104, 3) := dk_182 0 104 (dk_at dksX4_lasts_2 17 rfl rfl)
theorem dX4_lasts_68 : decode cX4_lasts 68 = .ok (.iconst (-1), 1) := dk_2 (dk_at dksX4_lasts_2 20 rfl rfl)
theorem dX4_lasts_69 : decode cX4_lasts 69 = .ok (.if_icmp .eq 14, 3) := dk_159 0 14 (dk_at dksX4_lasts_2 21 rfl rfl)
theorem dX4_lasts_72 : decode cX4_lasts 72 = .ok (.aload_n 0, 1) := dk_42 (dk_at dksX4_lasts_3 0 rfl rfl)
theorem dX4_lasts_73 : decode cX4_lasts 73 = .ok (.invokevirtual 203, 3) := dk_182 0 203 (dk_at dksX4_lasts_3 1 rfl rfl)
theorem dX4_lasts_76 : decode cX4_lasts 76 = .ok (.pop, 1) := dk_87 (dk_at dksX4_lasts_3 4 rfl rfl)
theorem dX4_lasts_77 : decode cX4_lasts 77 = .ok (.iinc 2 1, 3) := dk_132 2 1 (dk_at dksX4_lasts_3 5 rfl rfl)
theorem dX4_lasts_80 : decode cX4_lasts 80 = .ok (.goto (-17), 3) := dk_167 255 239 (dk_at dksX4_lasts_3 8 rfl rfl)
theorem dX4_lasts_83 : decode cX4_lasts 83 = .ok (.iconst 0, 1) := dk_3 (dk_at dksX4_lasts_3 11 rfl rfl)
theorem dX4_lasts_84 : decode cX4_lasts 84 = .ok (.istore_n 3, 1) := dk_62 (dk_at dksX4_lasts_3 12 rfl rfl)
theorem dX4_lasts_85 : decode cX4_lasts 85 = .ok (.iload_n 3, 1) := dk_29 (dk_at dksX4_lasts_3 13 rfl rfl)
theorem dX4_lasts_86 : decode cX4_lasts 86 = .ok (.sipush 306, 3) := dk_17 1 50 (dk_at dksX4_lasts_3 14 rfl rfl)
theorem dX4_lasts_89 : decode cX4_lasts 89 = .ok (.if_icmp .ge 21, 3) := dk_162 0 21 (dk_at dksX4_lasts_3 17 rfl rfl)
theorem dX4_lasts_92 : decode cX4_lasts 92 = .ok (.aload_n 0, 1) := dk_42 (dk_at dksX4_lasts_3 20 rfl rfl)
theorem dX4_lasts_93 : decode cX4_lasts 93 = .ok (.getfield 9, 3) := dk_180 0 9 (dk_at dksX4_lasts_3 21 rfl rfl)
theorem dX4_lasts_96 : decode cX4_lasts 96 = .ok (.iload_n 3, 1) := dk_29 (dk_at dksX4_lasts_4 0 rfl rfl)
theorem dX4_lasts_97 : decode cX4_lasts 97 = .ok (.aload_n 0, 1) := dk_42 (dk_at dksX4_lasts_4 1 rfl rfl)
theorem dX4_lasts_98 : decode cX4_lasts 98 = .ok (.getfield 16, 3) := dk_180 0 16 (dk_at dksX4_lasts_4 2 rfl rfl)
theorem dX4_lasts_101 : decode cX4_lasts 101 = .ok (.iload_n 3, 1) := dk_29 (dk_at dksX4_lasts_4 5 rfl rfl)
theorem dX4_lasts_102 : decode cX4_lasts 102 = .ok (.iaload, 1) := dk_46 (dk_at dksX4_lasts_4 6 rfl rfl)
theorem dX4_lasts_103 : decode cX4_lasts 103 = .ok (.iastore, 1) := dk_79 (dk_at dksX4_lasts_4 7 rfl rfl)
theorem dX4_lasts_104 : decode cX4_lasts 104 = .ok (.iinc 3 1, 3) := dk_132 3 1 (dk_at dksX4_lasts_4 8 rfl rfl)
theorem dX4_lasts_107 : decode cX4_lasts 107 = .ok (.goto (-22), 3) := dk_167 255 234 (dk_at dksX4_lasts_4 11 rfl rfl)
theorem dX4_lasts_110 : decode cX4_lasts 110 = .ok (.iload_n 2, 1) := dk_28 (dk_at dksX4_lasts_4 14 rfl rfl)
theorem dX4_lasts_111 : decode cX4_lasts 111 = .ok (.ireturn, 1) := dk_172 (dk_at dksX4_lasts_4 15 rfl rfl)
abbrev cX4_tell : ByteArray := prog_17_method_67_code
def yX4_tell : MethodName := ⟨RX4, "tell", "(I)I"⟩
def dkwX4_tell_6 : List UInt8 := [184, 0, 82, 16, 8, 96, 46, 154, 0, 9, 42, 16, 120, 182, 0, 213, 42, 180, 0, 210, 172]
abbrev dktX4_tell_6 : List UInt8 := dkwX4_tell_6 ++ []
def dkwX4_tell_5 : List UInt8 := [42, 16, 48, 28, 16, 10, 112, 96, 182, 0, 213, 132, 2, 1, 167, 255, 205, 42, 180, 0, 9, 27]
abbrev dktX4_tell_5 : List UInt8 := dkwX4_tell_5 ++ dktX4_tell_6
def dkwX4_tell_4 : List UInt8 := [182, 0, 94, 153, 0, 32, 42, 16, 124, 182, 0, 213, 28, 16, 9, 164, 0, 9, 42, 16, 49, 182, 0, 213]
abbrev dktX4_tell_4 : List UInt8 := dkwX4_tell_4 ++ dktX4_tell_5
def dkwX4_tell_3 : List UInt8 := [182, 0, 213, 132, 2, 1, 167, 255, 208, 3, 61, 28, 42, 180, 0, 9, 5, 46, 162, 0, 47, 42, 28, 27]
abbrev dktX4_tell_3 : List UInt8 := dkwX4_tell_3 ++ dktX4_tell_4
def dkwX4_tell_2 : List UInt8 := [160, 0, 8, 16, 42, 167, 0, 17, 16, 48, 42, 180, 0, 9, 27, 184, 0, 82, 28, 96, 46, 96]
abbrev dktX4_tell_2 : List UInt8 := dkwX4_tell_2 ++ dktX4_tell_3
def dkwX4_tell_1 : List UInt8 := [3, 61, 28, 16, 8, 162, 0, 48, 42, 42, 180, 0, 9, 27, 184, 0, 82, 28, 96, 46, 16, 9]
abbrev dktX4_tell_1 : List UInt8 := dkwX4_tell_1 ++ dktX4_tell_2
def dkwX4_tell_0 : List UInt8 := [42, 3, 181, 0, 54, 42, 27, 182, 0, 98, 154, 0, 9, 42, 4, 182, 0, 60, 172, 42, 3, 181, 0, 210]
abbrev dktX4_tell_0 : List UInt8 := dkwX4_tell_0 ++ dktX4_tell_1
theorem dksX4_tell_0 : cX4_tell.data.toList.drop 0 = dktX4_tell_0 := by decide +kernel
theorem dksX4_tell_1 : cX4_tell.data.toList.drop 24 = dktX4_tell_1 := dk_seg dksX4_tell_0 24 rfl rfl
theorem dksX4_tell_2 : cX4_tell.data.toList.drop 46 = dktX4_tell_2 := dk_seg dksX4_tell_1 22 rfl rfl
theorem dksX4_tell_3 : cX4_tell.data.toList.drop 68 = dktX4_tell_3 := dk_seg dksX4_tell_2 22 rfl rfl
theorem dksX4_tell_4 : cX4_tell.data.toList.drop 92 = dktX4_tell_4 := dk_seg dksX4_tell_3 24 rfl rfl
theorem dksX4_tell_5 : cX4_tell.data.toList.drop 116 = dktX4_tell_5 := dk_seg dksX4_tell_4 24 rfl rfl
theorem dksX4_tell_6 : cX4_tell.data.toList.drop 138 = dktX4_tell_6 := dk_seg dksX4_tell_5 22 rfl rfl
theorem dX4_tell_0 : decode cX4_tell 0 = .ok (.aload_n 0, 1) := dk_42 (dk_at dksX4_tell_0 0 rfl rfl)
theorem dX4_tell_1 : decode cX4_tell 1 = .ok (.iconst 0, 1) := dk_3 (dk_at dksX4_tell_0 1 rfl rfl)
theorem dX4_tell_2 : decode cX4_tell 2 = .ok (.putfield 54, 3) := dk_181 0 54 (dk_at dksX4_tell_0 2 rfl rfl)
theorem dX4_tell_5 : decode cX4_tell 5 = .ok (.aload_n 0, 1) := dk_42 (dk_at dksX4_tell_0 5 rfl rfl)
theorem dX4_tell_6 : decode cX4_tell 6 = .ok (.iload_n 1, 1) := dk_27 (dk_at dksX4_tell_0 6 rfl rfl)
theorem dX4_tell_7 : decode cX4_tell 7 = .ok (.invokevirtual 98, 3) := dk_182 0 98 (dk_at dksX4_tell_0 7 rfl rfl)
theorem dX4_tell_10 : decode cX4_tell 10 = .ok (.ifCond .ne 9, 3) := dk_154 0 9 (dk_at dksX4_tell_0 10 rfl rfl)
theorem dX4_tell_13 : decode cX4_tell 13 = .ok (.aload_n 0, 1) := dk_42 (dk_at dksX4_tell_0 13 rfl rfl)
theorem dX4_tell_14 : decode cX4_tell 14 = .ok (.iconst 1, 1) := dk_4 (dk_at dksX4_tell_0 14 rfl rfl)
theorem dX4_tell_15 : decode cX4_tell 15 = .ok (.invokevirtual 60, 3) := dk_182 0 60 (dk_at dksX4_tell_0 15 rfl rfl)
theorem dX4_tell_18 : decode cX4_tell 18 = .ok (.ireturn, 1) := dk_172 (dk_at dksX4_tell_0 18 rfl rfl)
theorem dX4_tell_19 : decode cX4_tell 19 = .ok (.aload_n 0, 1) := dk_42 (dk_at dksX4_tell_0 19 rfl rfl)
theorem dX4_tell_20 : decode cX4_tell 20 = .ok (.iconst 0, 1) := dk_3 (dk_at dksX4_tell_0 20 rfl rfl)
theorem dX4_tell_21 : decode cX4_tell 21 = .ok (.putfield 210, 3) := dk_181 0 210 (dk_at dksX4_tell_0 21 rfl rfl)
theorem dX4_tell_24 : decode cX4_tell 24 = .ok (.iconst 0, 1) := dk_3 (dk_at dksX4_tell_1 0 rfl rfl)
theorem dX4_tell_25 : decode cX4_tell 25 = .ok (.istore_n 2, 1) := dk_61 (dk_at dksX4_tell_1 1 rfl rfl)
theorem dX4_tell_26 : decode cX4_tell 26 = .ok (.iload_n 2, 1) := dk_28 (dk_at dksX4_tell_1 2 rfl rfl)
theorem dX4_tell_27 : decode cX4_tell 27 = .ok (.bipush 8, 2) := dk_16 8 (dk_at dksX4_tell_1 3 rfl rfl)
theorem dX4_tell_29 : decode cX4_tell 29 = .ok (.if_icmp .ge 48, 3) := dk_162 0 48 (dk_at dksX4_tell_1 5 rfl rfl)
theorem dX4_tell_32 : decode cX4_tell 32 = .ok (.aload_n 0, 1) := dk_42 (dk_at dksX4_tell_1 8 rfl rfl)
theorem dX4_tell_33 : decode cX4_tell 33 = .ok (.aload_n 0, 1) := dk_42 (dk_at dksX4_tell_1 9 rfl rfl)
theorem dX4_tell_34 : decode cX4_tell 34 = .ok (.getfield 9, 3) := dk_180 0 9 (dk_at dksX4_tell_1 10 rfl rfl)
theorem dX4_tell_37 : decode cX4_tell 37 = .ok (.iload_n 1, 1) := dk_27 (dk_at dksX4_tell_1 13 rfl rfl)
theorem dX4_tell_38 : decode cX4_tell 38 = .ok (.invokestatic 82, 3) := dk_184 0 82 (dk_at dksX4_tell_1 14 rfl rfl)
theorem dX4_tell_41 : decode cX4_tell 41 = .ok (.iload_n 2, 1) := dk_28 (dk_at dksX4_tell_1 17 rfl rfl)
theorem dX4_tell_42 : decode cX4_tell 42 = .ok (.iadd, 1) := dk_96 (dk_at dksX4_tell_1 18 rfl rfl)
theorem dX4_tell_43 : decode cX4_tell 43 = .ok (.iaload, 1) := dk_46 (dk_at dksX4_tell_1 19 rfl rfl)
theorem dX4_tell_44 : decode cX4_tell 44 = .ok (.bipush 9, 2) := dk_16 9 (dk_at dksX4_tell_1 20 rfl rfl)
theorem dX4_tell_46 : decode cX4_tell 46 = .ok (.if_icmp .ne 8, 3) := dk_160 0 8 (dk_at dksX4_tell_2 0 rfl rfl)
theorem dX4_tell_49 : decode cX4_tell 49 = .ok (.bipush 42, 2) := dk_16 42 (dk_at dksX4_tell_2 3 rfl rfl)
theorem dX4_tell_51 : decode cX4_tell 51 = .ok (.goto 17, 3) := dk_167 0 17 (dk_at dksX4_tell_2 5 rfl rfl)
theorem dX4_tell_54 : decode cX4_tell 54 = .ok (.bipush 48, 2) := dk_16 48 (dk_at dksX4_tell_2 8 rfl rfl)
theorem dX4_tell_56 : decode cX4_tell 56 = .ok (.aload_n 0, 1) := dk_42 (dk_at dksX4_tell_2 10 rfl rfl)
theorem dX4_tell_57 : decode cX4_tell 57 = .ok (.getfield 9, 3) := dk_180 0 9 (dk_at dksX4_tell_2 11 rfl rfl)
theorem dX4_tell_60 : decode cX4_tell 60 = .ok (.iload_n 1, 1) := dk_27 (dk_at dksX4_tell_2 14 rfl rfl)
theorem dX4_tell_61 : decode cX4_tell 61 = .ok (.invokestatic 82, 3) := dk_184 0 82 (dk_at dksX4_tell_2 15 rfl rfl)
theorem dX4_tell_64 : decode cX4_tell 64 = .ok (.iload_n 2, 1) := dk_28 (dk_at dksX4_tell_2 18 rfl rfl)
theorem dX4_tell_65 : decode cX4_tell 65 = .ok (.iadd, 1) := dk_96 (dk_at dksX4_tell_2 19 rfl rfl)
theorem dX4_tell_66 : decode cX4_tell 66 = .ok (.iaload, 1) := dk_46 (dk_at dksX4_tell_2 20 rfl rfl)
theorem dX4_tell_67 : decode cX4_tell 67 = .ok (.iadd, 1) := dk_96 (dk_at dksX4_tell_2 21 rfl rfl)
theorem dX4_tell_68 : decode cX4_tell 68 = .ok (.invokevirtual 213, 3) := dk_182 0 213 (dk_at dksX4_tell_3 0 rfl rfl)
theorem dX4_tell_71 : decode cX4_tell 71 = .ok (.iinc 2 1, 3) := dk_132 2 1 (dk_at dksX4_tell_3 3 rfl rfl)
theorem dX4_tell_74 : decode cX4_tell 74 = .ok (.goto (-48), 3) := dk_167 255 208 (dk_at dksX4_tell_3 6 rfl rfl)
theorem dX4_tell_77 : decode cX4_tell 77 = .ok (.iconst 0, 1) := dk_3 (dk_at dksX4_tell_3 9 rfl rfl)
theorem dX4_tell_78 : decode cX4_tell 78 = .ok (.istore_n 2, 1) := dk_61 (dk_at dksX4_tell_3 10 rfl rfl)
theorem dX4_tell_79 : decode cX4_tell 79 = .ok (.iload_n 2, 1) := dk_28 (dk_at dksX4_tell_3 11 rfl rfl)
theorem dX4_tell_80 : decode cX4_tell 80 = .ok (.aload_n 0, 1) := dk_42 (dk_at dksX4_tell_3 12 rfl rfl)
theorem dX4_tell_81 : decode cX4_tell 81 = .ok (.getfield 9, 3) := dk_180 0 9 (dk_at dksX4_tell_3 13 rfl rfl)
theorem dX4_tell_84 : decode cX4_tell 84 = .ok (.iconst 2, 1) := dk_5 (dk_at dksX4_tell_3 16 rfl rfl)
theorem dX4_tell_85 : decode cX4_tell 85 = .ok (.iaload, 1) := dk_46 (dk_at dksX4_tell_3 17 rfl rfl)
theorem dX4_tell_86 : decode cX4_tell 86 = .ok (.if_icmp .ge 47, 3) := dk_162 0 47 (dk_at dksX4_tell_3 18 rfl rfl)
theorem dX4_tell_89 : decode cX4_tell 89 = .ok (.aload_n 0, 1) := dk_42 (dk_at dksX4_tell_3 21 rfl rfl)
theorem dX4_tell_90 : decode cX4_tell 90 = .ok (.iload_n 2, 1) := dk_28 (dk_at dksX4_tell_3 22 rfl rfl)
theorem dX4_tell_91 : decode cX4_tell 91 = .ok (.iload_n 1, 1) := dk_27 (dk_at dksX4_tell_3 23 rfl rfl)
theorem dX4_tell_92 : decode cX4_tell 92 = .ok (.invokevirtual 94, 3) := dk_182 0 94 (dk_at dksX4_tell_4 0 rfl rfl)
theorem dX4_tell_95 : decode cX4_tell 95 = .ok (.ifCond .eq 32, 3) := dk_153 0 32 (dk_at dksX4_tell_4 3 rfl rfl)
theorem dX4_tell_98 : decode cX4_tell 98 = .ok (.aload_n 0, 1) := dk_42 (dk_at dksX4_tell_4 6 rfl rfl)
theorem dX4_tell_99 : decode cX4_tell 99 = .ok (.bipush 124, 2) := dk_16 124 (dk_at dksX4_tell_4 7 rfl rfl)
theorem dX4_tell_101 : decode cX4_tell 101 = .ok (.invokevirtual 213, 3) := dk_182 0 213 (dk_at dksX4_tell_4 9 rfl rfl)
theorem dX4_tell_104 : decode cX4_tell 104 = .ok (.iload_n 2, 1) := dk_28 (dk_at dksX4_tell_4 12 rfl rfl)
theorem dX4_tell_105 : decode cX4_tell 105 = .ok (.bipush 9, 2) := dk_16 9 (dk_at dksX4_tell_4 13 rfl rfl)
theorem dX4_tell_107 : decode cX4_tell 107 = .ok (.if_icmp .le 9, 3) := dk_164 0 9 (dk_at dksX4_tell_4 15 rfl rfl)
theorem dX4_tell_110 : decode cX4_tell 110 = .ok (.aload_n 0, 1) := dk_42 (dk_at dksX4_tell_4 18 rfl rfl)
theorem dX4_tell_111 : decode cX4_tell 111 = .ok (.bipush 49, 2) := dk_16 49 (dk_at dksX4_tell_4 19 rfl rfl)
theorem dX4_tell_113 : decode cX4_tell 113 = .ok (.invokevirtual 213, 3) := dk_182 0 213 (dk_at dksX4_tell_4 21 rfl rfl)
theorem dX4_tell_116 : decode cX4_tell 116 = .ok (.aload_n 0, 1) := dk_42 (dk_at dksX4_tell_5 0 rfl rfl)
theorem dX4_tell_117 : decode cX4_tell 117 = .ok (.bipush 48, 2) := dk_16 48 (dk_at dksX4_tell_5 1 rfl rfl)
theorem dX4_tell_119 : decode cX4_tell 119 = .ok (.iload_n 2, 1) := dk_28 (dk_at dksX4_tell_5 3 rfl rfl)
theorem dX4_tell_120 : decode cX4_tell 120 = .ok (.bipush 10, 2) := dk_16 10 (dk_at dksX4_tell_5 4 rfl rfl)
theorem dX4_tell_122 : decode cX4_tell 122 = .ok (.irem, 1) := dk_112 (dk_at dksX4_tell_5 6 rfl rfl)
theorem dX4_tell_123 : decode cX4_tell 123 = .ok (.iadd, 1) := dk_96 (dk_at dksX4_tell_5 7 rfl rfl)
theorem dX4_tell_124 : decode cX4_tell 124 = .ok (.invokevirtual 213, 3) := dk_182 0 213 (dk_at dksX4_tell_5 8 rfl rfl)
theorem dX4_tell_127 : decode cX4_tell 127 = .ok (.iinc 2 1, 3) := dk_132 2 1 (dk_at dksX4_tell_5 11 rfl rfl)
theorem dX4_tell_130 : decode cX4_tell 130 = .ok (.goto (-51), 3) := dk_167 255 205 (dk_at dksX4_tell_5 14 rfl rfl)
theorem dX4_tell_133 : decode cX4_tell 133 = .ok (.aload_n 0, 1) := dk_42 (dk_at dksX4_tell_5 17 rfl rfl)
theorem dX4_tell_134 : decode cX4_tell 134 = .ok (.getfield 9, 3) := dk_180 0 9 (dk_at dksX4_tell_5 18 rfl rfl)
theorem dX4_tell_137 : decode cX4_tell 137 = .ok (.iload_n 1, 1) := dk_27 (dk_at dksX4_tell_5 21 rfl rfl)
theorem dX4_tell_138 : decode cX4_tell 138 = .ok (.invokestatic 82, 3) := dk_184 0 82 (dk_at dksX4_tell_6 0 rfl rfl)
theorem dX4_tell_141 : decode cX4_tell 141 = .ok (.bipush 8, 2) := dk_16 8 (dk_at dksX4_tell_6 3 rfl rfl)
theorem dX4_tell_143 : decode cX4_tell 143 = .ok (.iadd, 1) := dk_96 (dk_at dksX4_tell_6 5 rfl rfl)
theorem dX4_tell_144 : decode cX4_tell 144 = .ok (.iaload, 1) := dk_46 (dk_at dksX4_tell_6 6 rfl rfl)
theorem dX4_tell_145 : decode cX4_tell 145 = .ok (.ifCond .ne 9, 3) := dk_154 0 9 (dk_at dksX4_tell_6 7 rfl rfl)
theorem dX4_tell_148 : decode cX4_tell 148 = .ok (.aload_n 0, 1) := dk_42 (dk_at dksX4_tell_6 10 rfl rfl)
theorem dX4_tell_149 : decode cX4_tell 149 = .ok (.bipush 120, 2) := dk_16 120 (dk_at dksX4_tell_6 11 rfl rfl)
theorem dX4_tell_151 : decode cX4_tell 151 = .ok (.invokevirtual 213, 3) := dk_182 0 213 (dk_at dksX4_tell_6 13 rfl rfl)
theorem dX4_tell_154 : decode cX4_tell 154 = .ok (.aload_n 0, 1) := dk_42 (dk_at dksX4_tell_6 16 rfl rfl)
theorem dX4_tell_155 : decode cX4_tell 155 = .ok (.getfield 210, 3) := dk_180 0 210 (dk_at dksX4_tell_6 17 rfl rfl)
theorem dX4_tell_158 : decode cX4_tell 158 = .ok (.ireturn, 1) := dk_172 (dk_at dksX4_tell_6 20 rfl rfl)
abbrev cX4_sign : ByteArray := prog_17_method_66_code
def yX4_sign : MethodName := ⟨RX4, "sign", "(I)V"⟩
def dkwX4_sign_0 : List UInt8 := [42, 180, 0, 38, 42, 180, 0, 210, 27, 79, 42, 89, 180, 0, 210, 4, 96, 181, 0, 210, 177]
abbrev dktX4_sign_0 : List UInt8 := dkwX4_sign_0 ++ []
theorem dksX4_sign_0 : cX4_sign.data.toList.drop 0 = dktX4_sign_0 := by decide +kernel
theorem dX4_sign_0 : decode cX4_sign 0 = .ok (.aload_n 0, 1) := dk_42 (dk_at dksX4_sign_0 0 rfl rfl)
theorem dX4_sign_1 : decode cX4_sign 1 = .ok (.getfield 38, 3) := dk_180 0 38 (dk_at dksX4_sign_0 1 rfl rfl)
theorem dX4_sign_4 : decode cX4_sign 4 = .ok (.aload_n 0, 1) := dk_42 (dk_at dksX4_sign_0 4 rfl rfl)
theorem dX4_sign_5 : decode cX4_sign 5 = .ok (.getfield 210, 3) := dk_180 0 210 (dk_at dksX4_sign_0 5 rfl rfl)
theorem dX4_sign_8 : decode cX4_sign 8 = .ok (.iload_n 1, 1) := dk_27 (dk_at dksX4_sign_0 8 rfl rfl)
theorem dX4_sign_9 : decode cX4_sign 9 = .ok (.iastore, 1) := dk_79 (dk_at dksX4_sign_0 9 rfl rfl)
theorem dX4_sign_10 : decode cX4_sign 10 = .ok (.aload_n 0, 1) := dk_42 (dk_at dksX4_sign_0 10 rfl rfl)
theorem dX4_sign_11 : decode cX4_sign 11 = .ok (.dup, 1) := dk_89 (dk_at dksX4_sign_0 11 rfl rfl)
theorem dX4_sign_12 : decode cX4_sign 12 = .ok (.getfield 210, 3) := dk_180 0 210 (dk_at dksX4_sign_0 12 rfl rfl)
theorem dX4_sign_15 : decode cX4_sign 15 = .ok (.iconst 1, 1) := dk_4 (dk_at dksX4_sign_0 15 rfl rfl)
theorem dX4_sign_16 : decode cX4_sign 16 = .ok (.iadd, 1) := dk_96 (dk_at dksX4_sign_0 16 rfl rfl)
theorem dX4_sign_17 : decode cX4_sign 17 = .ok (.putfield 210, 3) := dk_181 0 210 (dk_at dksX4_sign_0 17 rfl rfl)
theorem dX4_sign_20 : decode cX4_sign 20 = .ok (.return_, 1) := dk_177 (dk_at dksX4_sign_0 20 rfl rfl)
abbrev cX4_character : ByteArray := prog_17_method_68_code
def yX4_character : MethodName := ⟨RX4, "character", "(I)C"⟩
def dkwX4_character_1 : List UInt8 := [182, 0, 60, 87, 16, 32, 172, 42, 180, 0, 38, 27, 46, 146, 172]
abbrev dktX4_character_1 : List UInt8 := dkwX4_character_1 ++ []
def dkwX4_character_0 : List UInt8 := [42, 3, 181, 0, 54, 27, 133, 9, 42, 180, 0, 210, 4, 100, 133, 184, 0, 71, 154, 0, 12, 42, 4]
abbrev dktX4_character_0 : List UInt8 := dkwX4_character_0 ++ dktX4_character_1
theorem dksX4_character_0 : cX4_character.data.toList.drop 0 = dktX4_character_0 := by decide +kernel
theorem dksX4_character_1 : cX4_character.data.toList.drop 23 = dktX4_character_1 := dk_seg dksX4_character_0 23 rfl rfl
theorem dX4_character_0 : decode cX4_character 0 = .ok (.aload_n 0, 1) := dk_42 (dk_at dksX4_character_0 0 rfl rfl)
theorem dX4_character_1 : decode cX4_character 1 = .ok (.iconst 0, 1) := dk_3 (dk_at dksX4_character_0 1 rfl rfl)
theorem dX4_character_2 : decode cX4_character 2 = .ok (.putfield 54, 3) := dk_181 0 54 (dk_at dksX4_character_0 2 rfl rfl)
theorem dX4_character_5 : decode cX4_character 5 = .ok (.iload_n 1, 1) := dk_27 (dk_at dksX4_character_0 5 rfl rfl)
theorem dX4_character_6 : decode cX4_character 6 = .ok (.i2l, 1) := dk_133 (dk_at dksX4_character_0 6 rfl rfl)
theorem dX4_character_7 : decode cX4_character 7 = .ok (.lconst 0, 1) := dk_9 (dk_at dksX4_character_0 7 rfl rfl)
theorem dX4_character_8 : decode cX4_character 8 = .ok (.aload_n 0, 1) := dk_42 (dk_at dksX4_character_0 8 rfl rfl)
theorem dX4_character_9 : decode cX4_character 9 = .ok (.getfield 210, 3) := dk_180 0 210 (dk_at dksX4_character_0 9 rfl rfl)
theorem dX4_character_12 : decode cX4_character 12 = .ok (.iconst 1, 1) := dk_4 (dk_at dksX4_character_0 12 rfl rfl)
theorem dX4_character_13 : decode cX4_character 13 = .ok (.isub, 1) := dk_100 (dk_at dksX4_character_0 13 rfl rfl)
theorem dX4_character_14 : decode cX4_character 14 = .ok (.i2l, 1) := dk_133 (dk_at dksX4_character_0 14 rfl rfl)
theorem dX4_character_15 : decode cX4_character 15 = .ok (.invokestatic 71, 3) := dk_184 0 71 (dk_at dksX4_character_0 15 rfl rfl)
theorem dX4_character_18 : decode cX4_character 18 = .ok (.ifCond .ne 12, 3) := dk_154 0 12 (dk_at dksX4_character_0 18 rfl rfl)
theorem dX4_character_21 : decode cX4_character 21 = .ok (.aload_n 0, 1) := dk_42 (dk_at dksX4_character_0 21 rfl rfl)
theorem dX4_character_22 : decode cX4_character 22 = .ok (.iconst 1, 1) := dk_4 (dk_at dksX4_character_0 22 rfl rfl)
theorem dX4_character_23 : decode cX4_character 23 = .ok (.invokevirtual 60, 3) := dk_182 0 60 (dk_at dksX4_character_1 0 rfl rfl)
theorem dX4_character_26 : decode cX4_character 26 = .ok (.pop, 1) := dk_87 (dk_at dksX4_character_1 3 rfl rfl)
theorem dX4_character_27 : decode cX4_character 27 = .ok (.bipush 32, 2) := dk_16 32 (dk_at dksX4_character_1 4 rfl rfl)
theorem dX4_character_29 : decode cX4_character 29 = .ok (.ireturn, 1) := dk_172 (dk_at dksX4_character_1 6 rfl rfl)
theorem dX4_character_30 : decode cX4_character 30 = .ok (.aload_n 0, 1) := dk_42 (dk_at dksX4_character_1 7 rfl rfl)
theorem dX4_character_31 : decode cX4_character 31 = .ok (.getfield 38, 3) := dk_180 0 38 (dk_at dksX4_character_1 8 rfl rfl)
theorem dX4_character_34 : decode cX4_character 34 = .ok (.iload_n 1, 1) := dk_27 (dk_at dksX4_character_1 11 rfl rfl)
theorem dX4_character_35 : decode cX4_character 35 = .ok (.iaload, 1) := dk_46 (dk_at dksX4_character_1 12 rfl rfl)
theorem dX4_character_36 : decode cX4_character 36 = .ok (.i2c, 1) := dk_146 (dk_at dksX4_character_1 13 rfl rfl)
theorem dX4_character_37 : decode cX4_character 37 = .ok (.ireturn, 1) := dk_172 (dk_at dksX4_character_1 14 rfl rfl)
abbrev cX4_meanWeight : ByteArray := prog_17_method_69_code
def yX4_meanWeight : MethodName := ⟨RX4, "meanWeight", "()F"⟩
def dkwX4_meanWeight_4 : List UInt8 := [182, 0, 60, 87, 11, 174, 27, 134, 28, 134, 110, 174]
abbrev dktX4_meanWeight_4 : List UInt8 := dkwX4_meanWeight_4 ++ []
def dkwX4_meanWeight_3 : List UInt8 := [153, 0, 7, 4, 167, 0, 4, 3, 96, 61, 132, 3, 1, 167, 255, 185, 28, 154, 0, 11, 42, 4]
abbrev dktX4_meanWeight_3 : List UInt8 := dkwX4_meanWeight_3 ++ dktX4_meanWeight_4
def dkwX4_meanWeight_2 : List UInt8 := [153, 0, 17, 42, 180, 0, 9, 29, 184, 0, 91, 3, 96, 46, 167, 0, 4, 3, 96, 60, 28, 21, 4]
abbrev dktX4_meanWeight_2 : List UInt8 := dkwX4_meanWeight_2 ++ dktX4_meanWeight_3
def dkwX4_meanWeight_1 : List UInt8 := [180, 0, 9, 29, 184, 0, 91, 5, 96, 46, 5, 159, 0, 7, 4, 167, 0, 4, 3, 54, 4, 27, 21, 4]
abbrev dktX4_meanWeight_1 : List UInt8 := dkwX4_meanWeight_1 ++ dktX4_meanWeight_2
def dkwX4_meanWeight_0 : List UInt8 := [42, 3, 181, 0, 54, 3, 60, 3, 61, 3, 62, 29, 42, 180, 0, 9, 5, 46, 162, 0, 67, 42]
abbrev dktX4_meanWeight_0 : List UInt8 := dkwX4_meanWeight_0 ++ dktX4_meanWeight_1
theorem dksX4_meanWeight_0 : cX4_meanWeight.data.toList.drop 0 = dktX4_meanWeight_0 := by decide +kernel
theorem dksX4_meanWeight_1 : cX4_meanWeight.data.toList.drop 22 = dktX4_meanWeight_1 := dk_seg dksX4_meanWeight_0 22 rfl rfl
theorem dksX4_meanWeight_2 : cX4_meanWeight.data.toList.drop 46 = dktX4_meanWeight_2 := dk_seg dksX4_meanWeight_1 24 rfl rfl
theorem dksX4_meanWeight_3 : cX4_meanWeight.data.toList.drop 69 = dktX4_meanWeight_3 := dk_seg dksX4_meanWeight_2 23 rfl rfl
theorem dksX4_meanWeight_4 : cX4_meanWeight.data.toList.drop 91 = dktX4_meanWeight_4 := dk_seg dksX4_meanWeight_3 22 rfl rfl
theorem dX4_meanWeight_0 : decode cX4_meanWeight 0 = .ok (.aload_n 0, 1) := dk_42 (dk_at dksX4_meanWeight_0 0 rfl rfl)
theorem dX4_meanWeight_1 : decode cX4_meanWeight 1 = .ok (.iconst 0, 1) := dk_3 (dk_at dksX4_meanWeight_0 1 rfl rfl)
theorem dX4_meanWeight_2 : decode cX4_meanWeight 2 = .ok (.putfield 54, 3) := dk_181 0 54 (dk_at dksX4_meanWeight_0 2 rfl rfl)
theorem dX4_meanWeight_5 : decode cX4_meanWeight 5 = .ok (.iconst 0, 1) := dk_3 (dk_at dksX4_meanWeight_0 5 rfl rfl)
theorem dX4_meanWeight_6 : decode cX4_meanWeight 6 = .ok (.istore_n 1, 1) := dk_60 (dk_at dksX4_meanWeight_0 6 rfl rfl)
theorem dX4_meanWeight_7 : decode cX4_meanWeight 7 = .ok (.iconst 0, 1) := dk_3 (dk_at dksX4_meanWeight_0 7 rfl rfl)
theorem dX4_meanWeight_8 : decode cX4_meanWeight 8 = .ok (.istore_n 2, 1) := dk_61 (dk_at dksX4_meanWeight_0 8 rfl rfl)
theorem dX4_meanWeight_9 : decode cX4_meanWeight 9 = .ok (.iconst 0, 1) := dk_3 (dk_at dksX4_meanWeight_0 9 rfl rfl)
theorem dX4_meanWeight_10 : decode cX4_meanWeight 10 = .ok (.istore_n 3, 1) := dk_62 (dk_at dksX4_meanWeight_0 10 rfl rfl)
theorem dX4_meanWeight_11 : decode cX4_meanWeight 11 = .ok (.iload_n 3, 1) := dk_29 (dk_at dksX4_meanWeight_0 11 rfl rfl)
theorem dX4_meanWeight_12 : decode cX4_meanWeight 12 = .ok (.aload_n 0, 1) := dk_42 (dk_at dksX4_meanWeight_0 12 rfl rfl)
theorem dX4_meanWeight_13 : decode cX4_meanWeight 13 = .ok (.getfield 9, 3) := dk_180 0 9 (dk_at dksX4_meanWeight_0 13 rfl rfl)
theorem dX4_meanWeight_16 : decode cX4_meanWeight 16 = .ok (.iconst 2, 1) := dk_5 (dk_at dksX4_meanWeight_0 16 rfl rfl)
theorem dX4_meanWeight_17 : decode cX4_meanWeight 17 = .ok (.iaload, 1) := dk_46 (dk_at dksX4_meanWeight_0 17 rfl rfl)
theorem dX4_meanWeight_18 : decode cX4_meanWeight 18 = .ok (.if_icmp .ge 67, 3) := dk_162 0 67 (dk_at dksX4_meanWeight_0 18 rfl rfl)
theorem dX4_meanWeight_21 : decode cX4_meanWeight 21 = .ok (.aload_n 0, 1) := dk_42 (dk_at dksX4_meanWeight_0 21 rfl rfl)
theorem dX4_meanWeight_22 : decode cX4_meanWeight 22 = .ok (.getfield 9, 3) := dk_180 0 9 (dk_at dksX4_meanWeight_1 0 rfl rfl)
theorem dX4_meanWeight_25 : decode cX4_meanWeight 25 = .ok (.iload_n 3, 1) := dk_29 (dk_at dksX4_meanWeight_1 3 rfl rfl)
theorem dX4_meanWeight_26 : decode cX4_meanWeight 26 = .ok (.invokestatic 91, 3) := dk_184 0 91 (dk_at dksX4_meanWeight_1 4 rfl rfl)
theorem dX4_meanWeight_29 : decode cX4_meanWeight 29 = .ok (.iconst 2, 1) := dk_5 (dk_at dksX4_meanWeight_1 7 rfl rfl)
theorem dX4_meanWeight_30 : decode cX4_meanWeight 30 = .ok (.iadd, 1) := dk_96 (dk_at dksX4_meanWeight_1 8 rfl rfl)
theorem dX4_meanWeight_31 : decode cX4_meanWeight 31 = .ok (.iaload, 1) := dk_46 (dk_at dksX4_meanWeight_1 9 rfl rfl)
theorem dX4_meanWeight_32 : decode cX4_meanWeight 32 = .ok (.iconst 2, 1) := dk_5 (dk_at dksX4_meanWeight_1 10 rfl rfl)
theorem dX4_meanWeight_33 : decode cX4_meanWeight 33 = .ok (.if_icmp .eq 7, 3) := dk_159 0 7 (dk_at dksX4_meanWeight_1 11 rfl rfl)
theorem dX4_meanWeight_36 : decode cX4_meanWeight 36 = .ok (.iconst 1, 1) := dk_4 (dk_at dksX4_meanWeight_1 14 rfl rfl)
theorem dX4_meanWeight_37 : decode cX4_meanWeight 37 = .ok (.goto 4, 3) := dk_167 0 4 (dk_at dksX4_meanWeight_1 15 rfl rfl)
theorem dX4_meanWeight_40 : decode cX4_meanWeight 40 = .ok (.iconst 0, 1) := dk_3 (dk_at dksX4_meanWeight_1 18 rfl rfl)
theorem dX4_meanWeight_41 : decode cX4_meanWeight 41 = .ok (.istore 4, 2) := dk_54 4 (dk_at dksX4_meanWeight_1 19 rfl rfl)
theorem dX4_meanWeight_43 : decode cX4_meanWeight 43 = .ok (.iload_n 1, 1) := dk_27 (dk_at dksX4_meanWeight_1 21 rfl rfl)
theorem dX4_meanWeight_44 : decode cX4_meanWeight 44 = .ok (.iload 4, 2) := dk_21 4 (dk_at dksX4_meanWeight_1 22 rfl rfl)
theorem dX4_meanWeight_46 : decode cX4_meanWeight 46 = .ok (.ifCond .eq 17, 3) := dk_153 0 17 (dk_at dksX4_meanWeight_2 0 rfl rfl)
theorem dX4_meanWeight_49 : decode cX4_meanWeight 49 = .ok (.aload_n 0, 1) := dk_42 (dk_at dksX4_meanWeight_2 3 rfl rfl)
theorem dX4_meanWeight_50 : decode cX4_meanWeight 50 = .ok (.getfield 9, 3) := dk_180 0 9 (dk_at dksX4_meanWeight_2 4 rfl rfl)
theorem dX4_meanWeight_53 : decode cX4_meanWeight 53 = .ok (.iload_n 3, 1) := dk_29 (dk_at dksX4_meanWeight_2 7 rfl rfl)
theorem dX4_meanWeight_54 : decode cX4_meanWeight 54 = .ok (.invokestatic 91, 3) := dk_184 0 91 (dk_at dksX4_meanWeight_2 8 rfl rfl)
theorem dX4_meanWeight_57 : decode cX4_meanWeight 57 = .ok (.iconst 0, 1) := dk_3 (dk_at dksX4_meanWeight_2 11 rfl rfl)
theorem dX4_meanWeight_58 : decode cX4_meanWeight 58 = .ok (.iadd, 1) := dk_96 (dk_at dksX4_meanWeight_2 12 rfl rfl)
theorem dX4_meanWeight_59 : decode cX4_meanWeight 59 = .ok (.iaload, 1) := dk_46 (dk_at dksX4_meanWeight_2 13 rfl rfl)
theorem dX4_meanWeight_60 : decode cX4_meanWeight 60 = .ok (.goto 4, 3) := dk_167 0 4 (dk_at dksX4_meanWeight_2 14 rfl rfl)
theorem dX4_meanWeight_63 : decode cX4_meanWeight 63 = .ok (.iconst 0, 1) := dk_3 (dk_at dksX4_meanWeight_2 17 rfl rfl)
theorem dX4_meanWeight_64 : decode cX4_meanWeight 64 = .ok (.iadd, 1) := dk_96 (dk_at dksX4_meanWeight_2 18 rfl rfl)
theorem dX4_meanWeight_65 : decode cX4_meanWeight 65 = .ok (.istore_n 1, 1) := dk_60 (dk_at dksX4_meanWeight_2 19 rfl rfl)
theorem dX4_meanWeight_66 : decode cX4_meanWeight 66 = .ok (.iload_n 2, 1) := dk_28 (dk_at dksX4_meanWeight_2 20 rfl rfl)
theorem dX4_meanWeight_67 : decode cX4_meanWeight 67 = .ok (.iload 4, 2) := dk_21 4 (dk_at dksX4_meanWeight_2 21 rfl rfl)
theorem dX4_meanWeight_69 : decode cX4_meanWeight 69 = .ok (.ifCond .eq 7, 3) := dk_153 0 7 (dk_at dksX4_meanWeight_3 0 rfl rfl)
theorem dX4_meanWeight_72 : decode cX4_meanWeight 72 = .ok (.iconst 1, 1) := dk_4 (dk_at dksX4_meanWeight_3 3 rfl rfl)
theorem dX4_meanWeight_73 : decode cX4_meanWeight 73 = .ok (.goto 4, 3) := dk_167 0 4 (dk_at dksX4_meanWeight_3 4 rfl rfl)
theorem dX4_meanWeight_76 : decode cX4_meanWeight 76 = .ok (.iconst 0, 1) := dk_3 (dk_at dksX4_meanWeight_3 7 rfl rfl)
theorem dX4_meanWeight_77 : decode cX4_meanWeight 77 = .ok (.iadd, 1) := dk_96 (dk_at dksX4_meanWeight_3 8 rfl rfl)
theorem dX4_meanWeight_78 : decode cX4_meanWeight 78 = .ok (.istore_n 2, 1) := dk_61 (dk_at dksX4_meanWeight_3 9 rfl rfl)
theorem dX4_meanWeight_79 : decode cX4_meanWeight 79 = .ok (.iinc 3 1, 3) := dk_132 3 1 (dk_at dksX4_meanWeight_3 10 rfl rfl)
theorem dX4_meanWeight_82 : decode cX4_meanWeight 82 = .ok (.goto (-71), 3) := dk_167 255 185 (dk_at dksX4_meanWeight_3 13 rfl rfl)
theorem dX4_meanWeight_85 : decode cX4_meanWeight 85 = .ok (.iload_n 2, 1) := dk_28 (dk_at dksX4_meanWeight_3 16 rfl rfl)
theorem dX4_meanWeight_86 : decode cX4_meanWeight 86 = .ok (.ifCond .ne 11, 3) := dk_154 0 11 (dk_at dksX4_meanWeight_3 17 rfl rfl)
theorem dX4_meanWeight_89 : decode cX4_meanWeight 89 = .ok (.aload_n 0, 1) := dk_42 (dk_at dksX4_meanWeight_3 20 rfl rfl)
theorem dX4_meanWeight_90 : decode cX4_meanWeight 90 = .ok (.iconst 1, 1) := dk_4 (dk_at dksX4_meanWeight_3 21 rfl rfl)
theorem dX4_meanWeight_91 : decode cX4_meanWeight 91 = .ok (.invokevirtual 60, 3) := dk_182 0 60 (dk_at dksX4_meanWeight_4 0 rfl rfl)
theorem dX4_meanWeight_94 : decode cX4_meanWeight 94 = .ok (.pop, 1) := dk_87 (dk_at dksX4_meanWeight_4 3 rfl rfl)
theorem dX4_meanWeight_95 : decode cX4_meanWeight 95 = .ok (.fconst 0, 1) := dk_11 (dk_at dksX4_meanWeight_4 4 rfl rfl)
theorem dX4_meanWeight_96 : decode cX4_meanWeight 96 = .ok (.freturn, 1) := dk_174 (dk_at dksX4_meanWeight_4 5 rfl rfl)
theorem dX4_meanWeight_97 : decode cX4_meanWeight 97 = .ok (.iload_n 1, 1) := dk_27 (dk_at dksX4_meanWeight_4 6 rfl rfl)
theorem dX4_meanWeight_98 : decode cX4_meanWeight 98 = .ok (.i2f, 1) := dk_134 (dk_at dksX4_meanWeight_4 7 rfl rfl)
theorem dX4_meanWeight_99 : decode cX4_meanWeight 99 = .ok (.iload_n 2, 1) := dk_28 (dk_at dksX4_meanWeight_4 8 rfl rfl)
theorem dX4_meanWeight_100 : decode cX4_meanWeight 100 = .ok (.i2f, 1) := dk_134 (dk_at dksX4_meanWeight_4 9 rfl rfl)
theorem dX4_meanWeight_101 : decode cX4_meanWeight 101 = .ok (.fdiv, 1) := dk_110 (dk_at dksX4_meanWeight_4 10 rfl rfl)
theorem dX4_meanWeight_102 : decode cX4_meanWeight 102 = .ok (.freturn, 1) := dk_174 (dk_at dksX4_meanWeight_4 11 rfl rfl)
abbrev cX4_brokenShare : ByteArray := prog_17_method_71_code
def yX4_brokenShare : MethodName := ⟨RX4, "brokenShare", "()D"⟩
def dkwX4_brokenShare_1 : List UInt8 := [182, 0, 216, 135, 16, 8, 42, 180, 0, 9, 4, 46, 104, 135, 111, 175]
abbrev dktX4_brokenShare_1 : List UInt8 := dkwX4_brokenShare_1 ++ []
def dkwX4_brokenShare_0 : List UInt8 := [42, 3, 181, 0, 54, 42, 180, 0, 9, 4, 46, 154, 0, 11, 42, 4, 182, 0, 60, 87, 14, 175, 42]
abbrev dktX4_brokenShare_0 : List UInt8 := dkwX4_brokenShare_0 ++ dktX4_brokenShare_1
theorem dksX4_brokenShare_0 : cX4_brokenShare.data.toList.drop 0 = dktX4_brokenShare_0 := by decide +kernel
theorem dksX4_brokenShare_1 : cX4_brokenShare.data.toList.drop 23 = dktX4_brokenShare_1 := dk_seg dksX4_brokenShare_0 23 rfl rfl
theorem dX4_brokenShare_0 : decode cX4_brokenShare 0 = .ok (.aload_n 0, 1) := dk_42 (dk_at dksX4_brokenShare_0 0 rfl rfl)
theorem dX4_brokenShare_1 : decode cX4_brokenShare 1 = .ok (.iconst 0, 1) := dk_3 (dk_at dksX4_brokenShare_0 1 rfl rfl)
theorem dX4_brokenShare_2 : decode cX4_brokenShare 2 = .ok (.putfield 54, 3) := dk_181 0 54 (dk_at dksX4_brokenShare_0 2 rfl rfl)
theorem dX4_brokenShare_5 : decode cX4_brokenShare 5 = .ok (.aload_n 0, 1) := dk_42 (dk_at dksX4_brokenShare_0 5 rfl rfl)
theorem dX4_brokenShare_6 : decode cX4_brokenShare 6 = .ok (.getfield 9, 3) := dk_180 0 9 (dk_at dksX4_brokenShare_0 6 rfl rfl)
theorem dX4_brokenShare_9 : decode cX4_brokenShare 9 = .ok (.iconst 1, 1) := dk_4 (dk_at dksX4_brokenShare_0 9 rfl rfl)
theorem dX4_brokenShare_10 : decode cX4_brokenShare 10 = .ok (.iaload, 1) := dk_46 (dk_at dksX4_brokenShare_0 10 rfl rfl)
theorem dX4_brokenShare_11 : decode cX4_brokenShare 11 = .ok (.ifCond .ne 11, 3) := dk_154 0 11 (dk_at dksX4_brokenShare_0 11 rfl rfl)
theorem dX4_brokenShare_14 : decode cX4_brokenShare 14 = .ok (.aload_n 0, 1) := dk_42 (dk_at dksX4_brokenShare_0 14 rfl rfl)
theorem dX4_brokenShare_15 : decode cX4_brokenShare 15 = .ok (.iconst 1, 1) := dk_4 (dk_at dksX4_brokenShare_0 15 rfl rfl)
theorem dX4_brokenShare_16 : decode cX4_brokenShare 16 = .ok (.invokevirtual 60, 3) := dk_182 0 60 (dk_at dksX4_brokenShare_0 16 rfl rfl)
theorem dX4_brokenShare_19 : decode cX4_brokenShare 19 = .ok (.pop, 1) := dk_87 (dk_at dksX4_brokenShare_0 19 rfl rfl)
theorem dX4_brokenShare_20 : decode cX4_brokenShare 20 = .ok (.dconst 0, 1) := dk_14 (dk_at dksX4_brokenShare_0 20 rfl rfl)
theorem dX4_brokenShare_21 : decode cX4_brokenShare 21 = .ok (.dreturn, 1) := dk_175 (dk_at dksX4_brokenShare_0 21 rfl rfl)
theorem dX4_brokenShare_22 : decode cX4_brokenShare 22 = .ok (.aload_n 0, 1) := dk_42 (dk_at dksX4_brokenShare_0 22 rfl rfl)
theorem dX4_brokenShare_23 : decode cX4_brokenShare 23 = .ok (.invokevirtual 216, 3) := dk_182 0 216 (dk_at dksX4_brokenShare_1 0 rfl rfl)
theorem dX4_brokenShare_26 : decode cX4_brokenShare 26 = .ok (.i2d, 1) := dk_135 (dk_at dksX4_brokenShare_1 3 rfl rfl)
theorem dX4_brokenShare_27 : decode cX4_brokenShare 27 = .ok (.bipush 8, 2) := dk_16 8 (dk_at dksX4_brokenShare_1 4 rfl rfl)
theorem dX4_brokenShare_29 : decode cX4_brokenShare 29 = .ok (.aload_n 0, 1) := dk_42 (dk_at dksX4_brokenShare_1 6 rfl rfl)
theorem dX4_brokenShare_30 : decode cX4_brokenShare 30 = .ok (.getfield 9, 3) := dk_180 0 9 (dk_at dksX4_brokenShare_1 7 rfl rfl)
theorem dX4_brokenShare_33 : decode cX4_brokenShare 33 = .ok (.iconst 1, 1) := dk_4 (dk_at dksX4_brokenShare_1 10 rfl rfl)
theorem dX4_brokenShare_34 : decode cX4_brokenShare 34 = .ok (.iaload, 1) := dk_46 (dk_at dksX4_brokenShare_1 11 rfl rfl)
theorem dX4_brokenShare_35 : decode cX4_brokenShare 35 = .ok (.imul, 1) := dk_104 (dk_at dksX4_brokenShare_1 12 rfl rfl)
theorem dX4_brokenShare_36 : decode cX4_brokenShare 36 = .ok (.i2d, 1) := dk_135 (dk_at dksX4_brokenShare_1 13 rfl rfl)
theorem dX4_brokenShare_37 : decode cX4_brokenShare 37 = .ok (.ddiv, 1) := dk_111 (dk_at dksX4_brokenShare_1 14 rfl rfl)
theorem dX4_brokenShare_38 : decode cX4_brokenShare 38 = .ok (.dreturn, 1) := dk_175 (dk_at dksX4_brokenShare_1 15 rfl rfl)
abbrev cX4_allBroken : ByteArray := prog_17_method_70_code
def yX4_allBroken : MethodName := ⟨RX4, "allBroken", "()I"⟩
def dkwX4_allBroken_1 : List UInt8 := [132, 2, 1, 167, 255, 235, 27, 172]
abbrev dktX4_allBroken_1 : List UInt8 := dkwX4_allBroken_1 ++ []
def dkwX4_allBroken_0 : List UInt8 := [3, 60, 3, 61, 28, 42, 180, 0, 9, 4, 46, 162, 0, 17, 27, 42, 28, 182, 0, 88, 96, 60]
abbrev dktX4_allBroken_0 : List UInt8 := dkwX4_allBroken_0 ++ dktX4_allBroken_1
theorem dksX4_allBroken_0 : cX4_allBroken.data.toList.drop 0 = dktX4_allBroken_0 := by decide +kernel
theorem dksX4_allBroken_1 : cX4_allBroken.data.toList.drop 22 = dktX4_allBroken_1 := dk_seg dksX4_allBroken_0 22 rfl rfl
theorem dX4_allBroken_0 : decode cX4_allBroken 0 = .ok (.iconst 0, 1) := dk_3 (dk_at dksX4_allBroken_0 0 rfl rfl)
theorem dX4_allBroken_1 : decode cX4_allBroken 1 = .ok (.istore_n 1, 1) := dk_60 (dk_at dksX4_allBroken_0 1 rfl rfl)
theorem dX4_allBroken_2 : decode cX4_allBroken 2 = .ok (.iconst 0, 1) := dk_3 (dk_at dksX4_allBroken_0 2 rfl rfl)
theorem dX4_allBroken_3 : decode cX4_allBroken 3 = .ok (.istore_n 2, 1) := dk_61 (dk_at dksX4_allBroken_0 3 rfl rfl)
theorem dX4_allBroken_4 : decode cX4_allBroken 4 = .ok (.iload_n 2, 1) := dk_28 (dk_at dksX4_allBroken_0 4 rfl rfl)
theorem dX4_allBroken_5 : decode cX4_allBroken 5 = .ok (.aload_n 0, 1) := dk_42 (dk_at dksX4_allBroken_0 5 rfl rfl)
theorem dX4_allBroken_6 : decode cX4_allBroken 6 = .ok (.getfield 9, 3) := dk_180 0 9 (dk_at dksX4_allBroken_0 6 rfl rfl)
theorem dX4_allBroken_9 : decode cX4_allBroken 9 = .ok (.iconst 1, 1) := dk_4 (dk_at dksX4_allBroken_0 9 rfl rfl)
theorem dX4_allBroken_10 : decode cX4_allBroken 10 = .ok (.iaload, 1) := dk_46 (dk_at dksX4_allBroken_0 10 rfl rfl)
theorem dX4_allBroken_11 : decode cX4_allBroken 11 = .ok (.if_icmp .ge 17, 3) := dk_162 0 17 (dk_at dksX4_allBroken_0 11 rfl rfl)
theorem dX4_allBroken_14 : decode cX4_allBroken 14 = .ok (.iload_n 1, 1) := dk_27 (dk_at dksX4_allBroken_0 14 rfl rfl)
theorem dX4_allBroken_15 : decode cX4_allBroken 15 = .ok (.aload_n 0, 1) := dk_42 (dk_at dksX4_allBroken_0 15 rfl rfl)
theorem dX4_allBroken_16 : decode cX4_allBroken 16 = .ok (.iload_n 2, 1) := dk_28 (dk_at dksX4_allBroken_0 16 rfl rfl)
theorem dX4_allBroken_17 : decode cX4_allBroken 17 = .ok (.invokevirtual 88, 3) := dk_182 0 88 (dk_at dksX4_allBroken_0 17 rfl rfl)
theorem dX4_allBroken_20 : decode cX4_allBroken 20 = .ok (.iadd, 1) := dk_96 (dk_at dksX4_allBroken_0 20 rfl rfl)
theorem dX4_allBroken_21 : decode cX4_allBroken 21 = .ok (.istore_n 1, 1) := dk_60 (dk_at dksX4_allBroken_0 21 rfl rfl)
theorem dX4_allBroken_22 : decode cX4_allBroken 22 = .ok (.iinc 2 1, 3) := dk_132 2 1 (dk_at dksX4_allBroken_1 0 rfl rfl)
theorem dX4_allBroken_25 : decode cX4_allBroken 25 = .ok (.goto (-21), 3) := dk_167 255 235 (dk_at dksX4_allBroken_1 3 rfl rfl)
theorem dX4_allBroken_28 : decode cX4_allBroken 28 = .ok (.iload_n 1, 1) := dk_27 (dk_at dksX4_allBroken_1 6 rfl rfl)
theorem dX4_allBroken_29 : decode cX4_allBroken 29 = .ok (.ireturn, 1) := dk_172 (dk_at dksX4_allBroken_1 7 rfl rfl)
abbrev cX4_account : ByteArray := prog_17_method_75_code
def yX4_account : MethodName := ⟨RX4, "account", "(I)I"⟩
def dkwX4_account_6 : List UInt8 := [180, 0, 9, 3, 46, 172, 42, 180, 0, 228, 172, 42, 180, 0, 68, 172, 42, 4, 182, 0, 60, 172]
abbrev dktX4_account_6 : List UInt8 := dkwX4_account_6 ++ []
def dkwX4_account_5 : List UInt8 := [16, 12, 100, 182, 0, 183, 172, 42, 180, 0, 9, 16, 6, 46, 172, 42, 180, 0, 9, 16, 7, 46, 172, 42]
abbrev dktX4_account_5 : List UInt8 := dkwX4_account_5 ++ dktX4_account_6
def dkwX4_account_4 : List UInt8 := [17, 0, 167, 182, 0, 225, 172, 42, 180, 0, 9, 8, 46, 172, 42, 180, 0, 9, 6, 46, 172, 42, 27]
abbrev dktX4_account_4 : List UInt8 := dkwX4_account_4 ++ dktX4_account_5
def dkwX4_account_3 : List UInt8 := [42, 27, 7, 100, 182, 0, 153, 172, 42, 182, 0, 222, 172, 42, 17, 0, 152, 182, 0, 225, 172, 42]
abbrev dktX4_account_3 : List UInt8 := dkwX4_account_3 ++ dktX4_account_4
def dkwX4_account_2 : List UInt8 := [42, 180, 0, 9, 4, 46, 172, 42, 182, 0, 219, 172, 42, 182, 0, 216, 172, 42, 180, 0, 9, 5, 46, 172]
abbrev dktX4_account_2 : List UInt8 := dkwX4_account_2 ++ dktX4_account_3
def dkwX4_account_1 : List UInt8 := [170, 0, 0, 0, 0, 203, 0, 0, 0, 0, 0, 0, 0, 19, 0, 0, 0, 94, 0, 0, 0, 101, 0, 0, 0, 106, 0, 0, 0, 111, 0, 0, 0, 118, 0, 0, 0, 118, 0, 0, 0, 118, 0, 0, 0, 126, 0, 0, 0, 131, 0, 0, 0, 139, 0, 0, 0, 147, 0, 0, 0, 154, 0, 0, 0, 161, 0, 0, 0, 161, 0, 0, 0, 161, 0, 0, 0, 170, 0, 0, 0, 178, 0, 0, 0, 186, 0, 0, 0, 193, 0, 0, 0, 198]
abbrev dktX4_account_1 : List UInt8 := dkwX4_account_1 ++ dktX4_account_2
def dkwX4_account_0 : List UInt8 := [42, 3, 181, 0, 54, 27]
abbrev dktX4_account_0 : List UInt8 := dkwX4_account_0 ++ dktX4_account_1
theorem dksX4_account_0 : cX4_account.data.toList.drop 0 = dktX4_account_0 := by decide +kernel
theorem dksX4_account_1 : cX4_account.data.toList.drop 6 = dktX4_account_1 := dk_seg dksX4_account_0 6 rfl rfl
theorem dksX4_account_2 : cX4_account.data.toList.drop 100 = dktX4_account_2 := dk_seg dksX4_account_1 94 rfl rfl
theorem dksX4_account_3 : cX4_account.data.toList.drop 124 = dktX4_account_3 := dk_seg dksX4_account_2 24 rfl rfl
theorem dksX4_account_4 : cX4_account.data.toList.drop 146 = dktX4_account_4 := dk_seg dksX4_account_3 22 rfl rfl
theorem dksX4_account_5 : cX4_account.data.toList.drop 169 = dktX4_account_5 := dk_seg dksX4_account_4 23 rfl rfl
theorem dksX4_account_6 : cX4_account.data.toList.drop 193 = dktX4_account_6 := dk_seg dksX4_account_5 24 rfl rfl
theorem dX4_account_0 : decode cX4_account 0 = .ok (.aload_n 0, 1) := dk_42 (dk_at dksX4_account_0 0 rfl rfl)
theorem dX4_account_1 : decode cX4_account 1 = .ok (.iconst 0, 1) := dk_3 (dk_at dksX4_account_0 1 rfl rfl)
theorem dX4_account_2 : decode cX4_account 2 = .ok (.putfield 54, 3) := dk_181 0 54 (dk_at dksX4_account_0 2 rfl rfl)
theorem dX4_account_5 : decode cX4_account 5 = .ok (.iload_n 1, 1) := dk_27 (dk_at dksX4_account_0 5 rfl rfl)
theorem dX4_account_6 : decode cX4_account 6 = .ok (.tableswitch 203 0 19 #[94, 101, 106, 111, 118, 118, 118, 126, 131, 139, 147, 154, 161, 161, 161, 170, 178, 186, 193, 198], 94) := by decide +kernel
theorem dX4_account_100 : decode cX4_account 100 = .ok (.aload_n 0, 1) := dk_42 (dk_at dksX4_account_2 0 rfl rfl)
theorem dX4_account_101 : decode cX4_account 101 = .ok (.getfield 9, 3) := dk_180 0 9 (dk_at dksX4_account_2 1 rfl rfl)
theorem dX4_account_104 : decode cX4_account 104 = .ok (.iconst 1, 1) := dk_4 (dk_at dksX4_account_2 4 rfl rfl)
theorem dX4_account_105 : decode cX4_account 105 = .ok (.iaload, 1) := dk_46 (dk_at dksX4_account_2 5 rfl rfl)
theorem dX4_account_106 : decode cX4_account 106 = .ok (.ireturn, 1) := dk_172 (dk_at dksX4_account_2 6 rfl rfl)
theorem dX4_account_107 : decode cX4_account 107 = .ok (.aload_n 0, 1) := dk_42 (dk_at dksX4_account_2 7 rfl rfl)
theorem dX4_account_108 : decode cX4_account 108 = .ok (.invokevirtual 219, 3) := dk_182 0 219 (dk_at dksX4_account_2 8 rfl rfl)
theorem dX4_account_111 : decode cX4_account 111 = .ok (.ireturn, 1) := dk_172 (dk_at dksX4_account_2 11 rfl rfl)
theorem dX4_account_112 : decode cX4_account 112 = .ok (.aload_n 0, 1) := dk_42 (dk_at dksX4_account_2 12 rfl rfl)
theorem dX4_account_113 : decode cX4_account 113 = .ok (.invokevirtual 216, 3) := dk_182 0 216 (dk_at dksX4_account_2 13 rfl rfl)
theorem dX4_account_116 : decode cX4_account 116 = .ok (.ireturn, 1) := dk_172 (dk_at dksX4_account_2 16 rfl rfl)
theorem dX4_account_117 : decode cX4_account 117 = .ok (.aload_n 0, 1) := dk_42 (dk_at dksX4_account_2 17 rfl rfl)
theorem dX4_account_118 : decode cX4_account 118 = .ok (.getfield 9, 3) := dk_180 0 9 (dk_at dksX4_account_2 18 rfl rfl)
theorem dX4_account_121 : decode cX4_account 121 = .ok (.iconst 2, 1) := dk_5 (dk_at dksX4_account_2 21 rfl rfl)
theorem dX4_account_122 : decode cX4_account 122 = .ok (.iaload, 1) := dk_46 (dk_at dksX4_account_2 22 rfl rfl)
theorem dX4_account_123 : decode cX4_account 123 = .ok (.ireturn, 1) := dk_172 (dk_at dksX4_account_2 23 rfl rfl)
theorem dX4_account_124 : decode cX4_account 124 = .ok (.aload_n 0, 1) := dk_42 (dk_at dksX4_account_3 0 rfl rfl)
theorem dX4_account_125 : decode cX4_account 125 = .ok (.iload_n 1, 1) := dk_27 (dk_at dksX4_account_3 1 rfl rfl)
theorem dX4_account_126 : decode cX4_account 126 = .ok (.iconst 4, 1) := dk_7 (dk_at dksX4_account_3 2 rfl rfl)
theorem dX4_account_127 : decode cX4_account 127 = .ok (.isub, 1) := dk_100 (dk_at dksX4_account_3 3 rfl rfl)
theorem dX4_account_128 : decode cX4_account 128 = .ok (.invokevirtual 153, 3) := dk_182 0 153 (dk_at dksX4_account_3 4 rfl rfl)
theorem dX4_account_131 : decode cX4_account 131 = .ok (.ireturn, 1) := dk_172 (dk_at dksX4_account_3 7 rfl rfl)
theorem dX4_account_132 : decode cX4_account 132 = .ok (.aload_n 0, 1) := dk_42 (dk_at dksX4_account_3 8 rfl rfl)
theorem dX4_account_133 : decode cX4_account 133 = .ok (.invokevirtual 222, 3) := dk_182 0 222 (dk_at dksX4_account_3 9 rfl rfl)
theorem dX4_account_136 : decode cX4_account 136 = .ok (.ireturn, 1) := dk_172 (dk_at dksX4_account_3 12 rfl rfl)
theorem dX4_account_137 : decode cX4_account 137 = .ok (.aload_n 0, 1) := dk_42 (dk_at dksX4_account_3 13 rfl rfl)
theorem dX4_account_138 : decode cX4_account 138 = .ok (.sipush 152, 3) := dk_17 0 152 (dk_at dksX4_account_3 14 rfl rfl)
theorem dX4_account_141 : decode cX4_account 141 = .ok (.invokevirtual 225, 3) := dk_182 0 225 (dk_at dksX4_account_3 17 rfl rfl)
theorem dX4_account_144 : decode cX4_account 144 = .ok (.ireturn, 1) := dk_172 (dk_at dksX4_account_3 20 rfl rfl)
theorem dX4_account_145 : decode cX4_account 145 = .ok (.aload_n 0, 1) := dk_42 (dk_at dksX4_account_3 21 rfl rfl)
theorem dX4_account_146 : decode cX4_account 146 = .ok (.sipush 167, 3) := dk_17 0 167 (dk_at dksX4_account_4 0 rfl rfl)
theorem dX4_account_149 : decode cX4_account 149 = .ok (.invokevirtual 225, 3) := dk_182 0 225 (dk_at dksX4_account_4 3 rfl rfl)
theorem dX4_account_152 : decode cX4_account 152 = .ok (.ireturn, 1) := dk_172 (dk_at dksX4_account_4 6 rfl rfl)
theorem dX4_account_153 : decode cX4_account 153 = .ok (.aload_n 0, 1) := dk_42 (dk_at dksX4_account_4 7 rfl rfl)
theorem dX4_account_154 : decode cX4_account 154 = .ok (.getfield 9, 3) := dk_180 0 9 (dk_at dksX4_account_4 8 rfl rfl)
theorem dX4_account_157 : decode cX4_account 157 = .ok (.iconst 5, 1) := dk_8 (dk_at dksX4_account_4 11 rfl rfl)
theorem dX4_account_158 : decode cX4_account 158 = .ok (.iaload, 1) := dk_46 (dk_at dksX4_account_4 12 rfl rfl)
theorem dX4_account_159 : decode cX4_account 159 = .ok (.ireturn, 1) := dk_172 (dk_at dksX4_account_4 13 rfl rfl)
theorem dX4_account_160 : decode cX4_account 160 = .ok (.aload_n 0, 1) := dk_42 (dk_at dksX4_account_4 14 rfl rfl)
theorem dX4_account_161 : decode cX4_account 161 = .ok (.getfield 9, 3) := dk_180 0 9 (dk_at dksX4_account_4 15 rfl rfl)
theorem dX4_account_164 : decode cX4_account 164 = .ok (.iconst 3, 1) := dk_6 (dk_at dksX4_account_4 18 rfl rfl)
theorem dX4_account_165 : decode cX4_account 165 = .ok (.iaload, 1) := dk_46 (dk_at dksX4_account_4 19 rfl rfl)
theorem dX4_account_166 : decode cX4_account 166 = .ok (.ireturn, 1) := dk_172 (dk_at dksX4_account_4 20 rfl rfl)
theorem dX4_account_167 : decode cX4_account 167 = .ok (.aload_n 0, 1) := dk_42 (dk_at dksX4_account_4 21 rfl rfl)
theorem dX4_account_168 : decode cX4_account 168 = .ok (.iload_n 1, 1) := dk_27 (dk_at dksX4_account_4 22 rfl rfl)
theorem dX4_account_169 : decode cX4_account 169 = .ok (.bipush 12, 2) := dk_16 12 (dk_at dksX4_account_5 0 rfl rfl)
theorem dX4_account_171 : decode cX4_account 171 = .ok (.isub, 1) := dk_100 (dk_at dksX4_account_5 2 rfl rfl)
theorem dX4_account_172 : decode cX4_account 172 = .ok (.invokevirtual 183, 3) := dk_182 0 183 (dk_at dksX4_account_5 3 rfl rfl)
theorem dX4_account_175 : decode cX4_account 175 = .ok (.ireturn, 1) := dk_172 (dk_at dksX4_account_5 6 rfl rfl)
theorem dX4_account_176 : decode cX4_account 176 = .ok (.aload_n 0, 1) := dk_42 (dk_at dksX4_account_5 7 rfl rfl)
theorem dX4_account_177 : decode cX4_account 177 = .ok (.getfield 9, 3) := dk_180 0 9 (dk_at dksX4_account_5 8 rfl rfl)
theorem dX4_account_180 : decode cX4_account 180 = .ok (.bipush 6, 2) := dk_16 6 (dk_at dksX4_account_5 11 rfl rfl)
theorem dX4_account_182 : decode cX4_account 182 = .ok (.iaload, 1) := dk_46 (dk_at dksX4_account_5 13 rfl rfl)
theorem dX4_account_183 : decode cX4_account 183 = .ok (.ireturn, 1) := dk_172 (dk_at dksX4_account_5 14 rfl rfl)
theorem dX4_account_184 : decode cX4_account 184 = .ok (.aload_n 0, 1) := dk_42 (dk_at dksX4_account_5 15 rfl rfl)
theorem dX4_account_185 : decode cX4_account 185 = .ok (.getfield 9, 3) := dk_180 0 9 (dk_at dksX4_account_5 16 rfl rfl)
theorem dX4_account_188 : decode cX4_account 188 = .ok (.bipush 7, 2) := dk_16 7 (dk_at dksX4_account_5 19 rfl rfl)
theorem dX4_account_190 : decode cX4_account 190 = .ok (.iaload, 1) := dk_46 (dk_at dksX4_account_5 21 rfl rfl)
theorem dX4_account_191 : decode cX4_account 191 = .ok (.ireturn, 1) := dk_172 (dk_at dksX4_account_5 22 rfl rfl)
theorem dX4_account_192 : decode cX4_account 192 = .ok (.aload_n 0, 1) := dk_42 (dk_at dksX4_account_5 23 rfl rfl)
theorem dX4_account_193 : decode cX4_account 193 = .ok (.getfield 9, 3) := dk_180 0 9 (dk_at dksX4_account_6 0 rfl rfl)
theorem dX4_account_196 : decode cX4_account 196 = .ok (.iconst 0, 1) := dk_3 (dk_at dksX4_account_6 3 rfl rfl)
theorem dX4_account_197 : decode cX4_account 197 = .ok (.iaload, 1) := dk_46 (dk_at dksX4_account_6 4 rfl rfl)
theorem dX4_account_198 : decode cX4_account 198 = .ok (.ireturn, 1) := dk_172 (dk_at dksX4_account_6 5 rfl rfl)
theorem dX4_account_199 : decode cX4_account 199 = .ok (.aload_n 0, 1) := dk_42 (dk_at dksX4_account_6 6 rfl rfl)
theorem dX4_account_200 : decode cX4_account 200 = .ok (.getfield 228, 3) := dk_180 0 228 (dk_at dksX4_account_6 7 rfl rfl)
theorem dX4_account_203 : decode cX4_account 203 = .ok (.ireturn, 1) := dk_172 (dk_at dksX4_account_6 10 rfl rfl)
theorem dX4_account_204 : decode cX4_account 204 = .ok (.aload_n 0, 1) := dk_42 (dk_at dksX4_account_6 11 rfl rfl)
theorem dX4_account_205 : decode cX4_account 205 = .ok (.getfield 68, 3) := dk_180 0 68 (dk_at dksX4_account_6 12 rfl rfl)
theorem dX4_account_208 : decode cX4_account 208 = .ok (.ireturn, 1) := dk_172 (dk_at dksX4_account_6 15 rfl rfl)
theorem dX4_account_209 : decode cX4_account 209 = .ok (.aload_n 0, 1) := dk_42 (dk_at dksX4_account_6 16 rfl rfl)
theorem dX4_account_210 : decode cX4_account 210 = .ok (.iconst 1, 1) := dk_4 (dk_at dksX4_account_6 17 rfl rfl)
theorem dX4_account_211 : decode cX4_account 211 = .ok (.invokevirtual 60, 3) := dk_182 0 60 (dk_at dksX4_account_6 18 rfl rfl)
theorem dX4_account_214 : decode cX4_account 214 = .ok (.ireturn, 1) := dk_172 (dk_at dksX4_account_6 21 rfl rfl)
abbrev cX4_openMats : ByteArray := prog_17_method_72_code
def yX4_openMats : MethodName := ⟨RX4, "openMats", "()I"⟩
def dkwX4_openMats_1 : List UInt8 := [16, 8, 96, 46, 96, 60, 132, 2, 1, 167, 255, 228, 27, 172]
abbrev dktX4_openMats_1 : List UInt8 := dkwX4_openMats_1 ++ []
def dkwX4_openMats_0 : List UInt8 := [3, 60, 3, 61, 28, 42, 180, 0, 9, 4, 46, 162, 0, 24, 27, 42, 180, 0, 9, 28, 184, 0, 82]
abbrev dktX4_openMats_0 : List UInt8 := dkwX4_openMats_0 ++ dktX4_openMats_1
theorem dksX4_openMats_0 : cX4_openMats.data.toList.drop 0 = dktX4_openMats_0 := by decide +kernel
theorem dksX4_openMats_1 : cX4_openMats.data.toList.drop 23 = dktX4_openMats_1 := dk_seg dksX4_openMats_0 23 rfl rfl
theorem dX4_openMats_0 : decode cX4_openMats 0 = .ok (.iconst 0, 1) := dk_3 (dk_at dksX4_openMats_0 0 rfl rfl)
theorem dX4_openMats_1 : decode cX4_openMats 1 = .ok (.istore_n 1, 1) := dk_60 (dk_at dksX4_openMats_0 1 rfl rfl)
theorem dX4_openMats_2 : decode cX4_openMats 2 = .ok (.iconst 0, 1) := dk_3 (dk_at dksX4_openMats_0 2 rfl rfl)
theorem dX4_openMats_3 : decode cX4_openMats 3 = .ok (.istore_n 2, 1) := dk_61 (dk_at dksX4_openMats_0 3 rfl rfl)
theorem dX4_openMats_4 : decode cX4_openMats 4 = .ok (.iload_n 2, 1) := dk_28 (dk_at dksX4_openMats_0 4 rfl rfl)
theorem dX4_openMats_5 : decode cX4_openMats 5 = .ok (.aload_n 0, 1) := dk_42 (dk_at dksX4_openMats_0 5 rfl rfl)
theorem dX4_openMats_6 : decode cX4_openMats 6 = .ok (.getfield 9, 3) := dk_180 0 9 (dk_at dksX4_openMats_0 6 rfl rfl)
theorem dX4_openMats_9 : decode cX4_openMats 9 = .ok (.iconst 1, 1) := dk_4 (dk_at dksX4_openMats_0 9 rfl rfl)
theorem dX4_openMats_10 : decode cX4_openMats 10 = .ok (.iaload, 1) := dk_46 (dk_at dksX4_openMats_0 10 rfl rfl)
theorem dX4_openMats_11 : decode cX4_openMats 11 = .ok (.if_icmp .ge 24, 3) := dk_162 0 24 (dk_at dksX4_openMats_0 11 rfl rfl)
theorem dX4_openMats_14 : decode cX4_openMats 14 = .ok (.iload_n 1, 1) := dk_27 (dk_at dksX4_openMats_0 14 rfl rfl)
theorem dX4_openMats_15 : decode cX4_openMats 15 = .ok (.aload_n 0, 1) := dk_42 (dk_at dksX4_openMats_0 15 rfl rfl)
theorem dX4_openMats_16 : decode cX4_openMats 16 = .ok (.getfield 9, 3) := dk_180 0 9 (dk_at dksX4_openMats_0 16 rfl rfl)
theorem dX4_openMats_19 : decode cX4_openMats 19 = .ok (.iload_n 2, 1) := dk_28 (dk_at dksX4_openMats_0 19 rfl rfl)
theorem dX4_openMats_20 : decode cX4_openMats 20 = .ok (.invokestatic 82, 3) := dk_184 0 82 (dk_at dksX4_openMats_0 20 rfl rfl)
theorem dX4_openMats_23 : decode cX4_openMats 23 = .ok (.bipush 8, 2) := dk_16 8 (dk_at dksX4_openMats_1 0 rfl rfl)
theorem dX4_openMats_25 : decode cX4_openMats 25 = .ok (.iadd, 1) := dk_96 (dk_at dksX4_openMats_1 2 rfl rfl)
theorem dX4_openMats_26 : decode cX4_openMats 26 = .ok (.iaload, 1) := dk_46 (dk_at dksX4_openMats_1 3 rfl rfl)
theorem dX4_openMats_27 : decode cX4_openMats 27 = .ok (.iadd, 1) := dk_96 (dk_at dksX4_openMats_1 4 rfl rfl)
theorem dX4_openMats_28 : decode cX4_openMats 28 = .ok (.istore_n 1, 1) := dk_60 (dk_at dksX4_openMats_1 5 rfl rfl)
theorem dX4_openMats_29 : decode cX4_openMats 29 = .ok (.iinc 2 1, 3) := dk_132 2 1 (dk_at dksX4_openMats_1 6 rfl rfl)
theorem dX4_openMats_32 : decode cX4_openMats 32 = .ok (.goto (-28), 3) := dk_167 255 228 (dk_at dksX4_openMats_1 9 rfl rfl)
theorem dX4_openMats_35 : decode cX4_openMats 35 = .ok (.iload_n 1, 1) := dk_27 (dk_at dksX4_openMats_1 12 rfl rfl)
theorem dX4_openMats_36 : decode cX4_openMats 36 = .ok (.ireturn, 1) := dk_172 (dk_at dksX4_openMats_1 13 rfl rfl)
abbrev cX4_withSocks : ByteArray := prog_17_method_73_code
def yX4_withSocks : MethodName := ⟨RX4, "withSocks", "()I"⟩
def dkwX4_withSocks_1 : List UInt8 := [96, 46, 2, 160, 0, 7, 3, 167, 0, 4, 4, 96, 60, 132, 2, 1, 167, 255, 220, 27, 172]
abbrev dktX4_withSocks_1 : List UInt8 := dkwX4_withSocks_1 ++ []
def dkwX4_withSocks_0 : List UInt8 := [3, 60, 3, 61, 28, 42, 180, 0, 9, 5, 46, 162, 0, 32, 27, 42, 180, 0, 9, 28, 184, 0, 91, 7]
abbrev dktX4_withSocks_0 : List UInt8 := dkwX4_withSocks_0 ++ dktX4_withSocks_1
theorem dksX4_withSocks_0 : cX4_withSocks.data.toList.drop 0 = dktX4_withSocks_0 := by decide +kernel
theorem dksX4_withSocks_1 : cX4_withSocks.data.toList.drop 24 = dktX4_withSocks_1 := dk_seg dksX4_withSocks_0 24 rfl rfl
theorem dX4_withSocks_0 : decode cX4_withSocks 0 = .ok (.iconst 0, 1) := dk_3 (dk_at dksX4_withSocks_0 0 rfl rfl)
theorem dX4_withSocks_1 : decode cX4_withSocks 1 = .ok (.istore_n 1, 1) := dk_60 (dk_at dksX4_withSocks_0 1 rfl rfl)
theorem dX4_withSocks_2 : decode cX4_withSocks 2 = .ok (.iconst 0, 1) := dk_3 (dk_at dksX4_withSocks_0 2 rfl rfl)
theorem dX4_withSocks_3 : decode cX4_withSocks 3 = .ok (.istore_n 2, 1) := dk_61 (dk_at dksX4_withSocks_0 3 rfl rfl)
theorem dX4_withSocks_4 : decode cX4_withSocks 4 = .ok (.iload_n 2, 1) := dk_28 (dk_at dksX4_withSocks_0 4 rfl rfl)
theorem dX4_withSocks_5 : decode cX4_withSocks 5 = .ok (.aload_n 0, 1) := dk_42 (dk_at dksX4_withSocks_0 5 rfl rfl)
theorem dX4_withSocks_6 : decode cX4_withSocks 6 = .ok (.getfield 9, 3) := dk_180 0 9 (dk_at dksX4_withSocks_0 6 rfl rfl)
theorem dX4_withSocks_9 : decode cX4_withSocks 9 = .ok (.iconst 2, 1) := dk_5 (dk_at dksX4_withSocks_0 9 rfl rfl)
theorem dX4_withSocks_10 : decode cX4_withSocks 10 = .ok (.iaload, 1) := dk_46 (dk_at dksX4_withSocks_0 10 rfl rfl)
theorem dX4_withSocks_11 : decode cX4_withSocks 11 = .ok (.if_icmp .ge 32, 3) := dk_162 0 32 (dk_at dksX4_withSocks_0 11 rfl rfl)
theorem dX4_withSocks_14 : decode cX4_withSocks 14 = .ok (.iload_n 1, 1) := dk_27 (dk_at dksX4_withSocks_0 14 rfl rfl)
theorem dX4_withSocks_15 : decode cX4_withSocks 15 = .ok (.aload_n 0, 1) := dk_42 (dk_at dksX4_withSocks_0 15 rfl rfl)
theorem dX4_withSocks_16 : decode cX4_withSocks 16 = .ok (.getfield 9, 3) := dk_180 0 9 (dk_at dksX4_withSocks_0 16 rfl rfl)
theorem dX4_withSocks_19 : decode cX4_withSocks 19 = .ok (.iload_n 2, 1) := dk_28 (dk_at dksX4_withSocks_0 19 rfl rfl)
theorem dX4_withSocks_20 : decode cX4_withSocks 20 = .ok (.invokestatic 91, 3) := dk_184 0 91 (dk_at dksX4_withSocks_0 20 rfl rfl)
theorem dX4_withSocks_23 : decode cX4_withSocks 23 = .ok (.iconst 4, 1) := dk_7 (dk_at dksX4_withSocks_0 23 rfl rfl)
theorem dX4_withSocks_24 : decode cX4_withSocks 24 = .ok (.iadd, 1) := dk_96 (dk_at dksX4_withSocks_1 0 rfl rfl)
theorem dX4_withSocks_25 : decode cX4_withSocks 25 = .ok (.iaload, 1) := dk_46 (dk_at dksX4_withSocks_1 1 rfl rfl)
theorem dX4_withSocks_26 : decode cX4_withSocks 26 = .ok (.iconst (-1), 1) := dk_2 (dk_at dksX4_withSocks_1 2 rfl rfl)
theorem dX4_withSocks_27 : decode cX4_withSocks 27 = .ok (.if_icmp .ne 7, 3) := dk_160 0 7 (dk_at dksX4_withSocks_1 3 rfl rfl)
theorem dX4_withSocks_30 : decode cX4_withSocks 30 = .ok (.iconst 0, 1) := dk_3 (dk_at dksX4_withSocks_1 6 rfl rfl)
theorem dX4_withSocks_31 : decode cX4_withSocks 31 = .ok (.goto 4, 3) := dk_167 0 4 (dk_at dksX4_withSocks_1 7 rfl rfl)
theorem dX4_withSocks_34 : decode cX4_withSocks 34 = .ok (.iconst 1, 1) := dk_4 (dk_at dksX4_withSocks_1 10 rfl rfl)
theorem dX4_withSocks_35 : decode cX4_withSocks 35 = .ok (.iadd, 1) := dk_96 (dk_at dksX4_withSocks_1 11 rfl rfl)
theorem dX4_withSocks_36 : decode cX4_withSocks 36 = .ok (.istore_n 1, 1) := dk_60 (dk_at dksX4_withSocks_1 12 rfl rfl)
theorem dX4_withSocks_37 : decode cX4_withSocks 37 = .ok (.iinc 2 1, 3) := dk_132 2 1 (dk_at dksX4_withSocks_1 13 rfl rfl)
theorem dX4_withSocks_40 : decode cX4_withSocks 40 = .ok (.goto (-36), 3) := dk_167 255 220 (dk_at dksX4_withSocks_1 16 rfl rfl)
theorem dX4_withSocks_43 : decode cX4_withSocks 43 = .ok (.iload_n 1, 1) := dk_27 (dk_at dksX4_withSocks_1 19 rfl rfl)
theorem dX4_withSocks_44 : decode cX4_withSocks 44 = .ok (.ireturn, 1) := dk_172 (dk_at dksX4_withSocks_1 20 rfl rfl)
abbrev cX4_pairs : ByteArray := prog_17_method_74_code
def yX4_pairs : MethodName := ⟨RX4, "pairs", "(I)I"⟩
def dkwX4_pairs_1 : List UInt8 := [28, 172]
abbrev dktX4_pairs_1 : List UInt8 := dkwX4_pairs_1 ++ []
def dkwX4_pairs_0 : List UInt8 := [3, 61, 3, 62, 29, 8, 162, 0, 18, 28, 42, 27, 29, 182, 0, 164, 96, 61, 132, 3, 1, 167, 255, 239]
abbrev dktX4_pairs_0 : List UInt8 := dkwX4_pairs_0 ++ dktX4_pairs_1
theorem dksX4_pairs_0 : cX4_pairs.data.toList.drop 0 = dktX4_pairs_0 := by decide +kernel
theorem dksX4_pairs_1 : cX4_pairs.data.toList.drop 24 = dktX4_pairs_1 := dk_seg dksX4_pairs_0 24 rfl rfl
theorem dX4_pairs_0 : decode cX4_pairs 0 = .ok (.iconst 0, 1) := dk_3 (dk_at dksX4_pairs_0 0 rfl rfl)
theorem dX4_pairs_1 : decode cX4_pairs 1 = .ok (.istore_n 2, 1) := dk_61 (dk_at dksX4_pairs_0 1 rfl rfl)
theorem dX4_pairs_2 : decode cX4_pairs 2 = .ok (.iconst 0, 1) := dk_3 (dk_at dksX4_pairs_0 2 rfl rfl)
theorem dX4_pairs_3 : decode cX4_pairs 3 = .ok (.istore_n 3, 1) := dk_62 (dk_at dksX4_pairs_0 3 rfl rfl)
theorem dX4_pairs_4 : decode cX4_pairs 4 = .ok (.iload_n 3, 1) := dk_29 (dk_at dksX4_pairs_0 4 rfl rfl)
theorem dX4_pairs_5 : decode cX4_pairs 5 = .ok (.iconst 5, 1) := dk_8 (dk_at dksX4_pairs_0 5 rfl rfl)
theorem dX4_pairs_6 : decode cX4_pairs 6 = .ok (.if_icmp .ge 18, 3) := dk_162 0 18 (dk_at dksX4_pairs_0 6 rfl rfl)
theorem dX4_pairs_9 : decode cX4_pairs 9 = .ok (.iload_n 2, 1) := dk_28 (dk_at dksX4_pairs_0 9 rfl rfl)
theorem dX4_pairs_10 : decode cX4_pairs 10 = .ok (.aload_n 0, 1) := dk_42 (dk_at dksX4_pairs_0 10 rfl rfl)
theorem dX4_pairs_11 : decode cX4_pairs 11 = .ok (.iload_n 1, 1) := dk_27 (dk_at dksX4_pairs_0 11 rfl rfl)
theorem dX4_pairs_12 : decode cX4_pairs 12 = .ok (.iload_n 3, 1) := dk_29 (dk_at dksX4_pairs_0 12 rfl rfl)
theorem dX4_pairs_13 : decode cX4_pairs 13 = .ok (.invokevirtual 164, 3) := dk_182 0 164 (dk_at dksX4_pairs_0 13 rfl rfl)
theorem dX4_pairs_16 : decode cX4_pairs 16 = .ok (.iadd, 1) := dk_96 (dk_at dksX4_pairs_0 16 rfl rfl)
theorem dX4_pairs_17 : decode cX4_pairs 17 = .ok (.istore_n 2, 1) := dk_61 (dk_at dksX4_pairs_0 17 rfl rfl)
theorem dX4_pairs_18 : decode cX4_pairs 18 = .ok (.iinc 3 1, 3) := dk_132 3 1 (dk_at dksX4_pairs_0 18 rfl rfl)
theorem dX4_pairs_21 : decode cX4_pairs 21 = .ok (.goto (-17), 3) := dk_167 255 239 (dk_at dksX4_pairs_0 21 rfl rfl)
theorem dX4_pairs_24 : decode cX4_pairs 24 = .ok (.iload_n 2, 1) := dk_28 (dk_at dksX4_pairs_1 0 rfl rfl)
theorem dX4_pairs_25 : decode cX4_pairs 25 = .ok (.ireturn, 1) := dk_172 (dk_at dksX4_pairs_1 1 rfl rfl)
abbrev cX4_append : ByteArray := prog_17_method_76_code
def yX4_append : MethodName := ⟨RX4, "append", "(C)I"⟩
def dkwX4_append_2 : List UInt8 := [27, 79, 42, 89, 180, 0, 228, 4, 96, 181, 0, 228, 42, 180, 0, 228, 172]
abbrev dktX4_append_2 : List UInt8 := dkwX4_append_2 ++ []
def dkwX4_append_1 : List UInt8 := [172, 42, 180, 0, 228, 16, 60, 160, 0, 9, 42, 5, 182, 0, 60, 172, 42, 180, 0, 35, 42, 180, 0, 228]
abbrev dktX4_append_1 : List UInt8 := dkwX4_append_1 ++ dktX4_append_2
def dkwX4_append_0 : List UInt8 := [42, 3, 181, 0, 54, 27, 133, 20, 0, 231, 20, 0, 233, 184, 0, 71, 154, 0, 9, 42, 4, 182, 0, 60]
abbrev dktX4_append_0 : List UInt8 := dkwX4_append_0 ++ dktX4_append_1
theorem dksX4_append_0 : cX4_append.data.toList.drop 0 = dktX4_append_0 := by decide +kernel
theorem dksX4_append_1 : cX4_append.data.toList.drop 24 = dktX4_append_1 := dk_seg dksX4_append_0 24 rfl rfl
theorem dksX4_append_2 : cX4_append.data.toList.drop 48 = dktX4_append_2 := dk_seg dksX4_append_1 24 rfl rfl
theorem dX4_append_0 : decode cX4_append 0 = .ok (.aload_n 0, 1) := dk_42 (dk_at dksX4_append_0 0 rfl rfl)
theorem dX4_append_1 : decode cX4_append 1 = .ok (.iconst 0, 1) := dk_3 (dk_at dksX4_append_0 1 rfl rfl)
theorem dX4_append_2 : decode cX4_append 2 = .ok (.putfield 54, 3) := dk_181 0 54 (dk_at dksX4_append_0 2 rfl rfl)
theorem dX4_append_5 : decode cX4_append 5 = .ok (.iload_n 1, 1) := dk_27 (dk_at dksX4_append_0 5 rfl rfl)
theorem dX4_append_6 : decode cX4_append 6 = .ok (.i2l, 1) := dk_133 (dk_at dksX4_append_0 6 rfl rfl)
theorem dX4_append_7 : decode cX4_append 7 = .ok (.ldc2_w 231, 3) := dk_20 0 231 (dk_at dksX4_append_0 7 rfl rfl)
theorem dX4_append_10 : decode cX4_append 10 = .ok (.ldc2_w 233, 3) := dk_20 0 233 (dk_at dksX4_append_0 10 rfl rfl)
theorem dX4_append_13 : decode cX4_append 13 = .ok (.invokestatic 71, 3) := dk_184 0 71 (dk_at dksX4_append_0 13 rfl rfl)
theorem dX4_append_16 : decode cX4_append 16 = .ok (.ifCond .ne 9, 3) := dk_154 0 9 (dk_at dksX4_append_0 16 rfl rfl)
theorem dX4_append_19 : decode cX4_append 19 = .ok (.aload_n 0, 1) := dk_42 (dk_at dksX4_append_0 19 rfl rfl)
theorem dX4_append_20 : decode cX4_append 20 = .ok (.iconst 1, 1) := dk_4 (dk_at dksX4_append_0 20 rfl rfl)
theorem dX4_append_21 : decode cX4_append 21 = .ok (.invokevirtual 60, 3) := dk_182 0 60 (dk_at dksX4_append_0 21 rfl rfl)
theorem dX4_append_24 : decode cX4_append 24 = .ok (.ireturn, 1) := dk_172 (dk_at dksX4_append_1 0 rfl rfl)
theorem dX4_append_25 : decode cX4_append 25 = .ok (.aload_n 0, 1) := dk_42 (dk_at dksX4_append_1 1 rfl rfl)
theorem dX4_append_26 : decode cX4_append 26 = .ok (.getfield 228, 3) := dk_180 0 228 (dk_at dksX4_append_1 2 rfl rfl)
theorem dX4_append_29 : decode cX4_append 29 = .ok (.bipush 60, 2) := dk_16 60 (dk_at dksX4_append_1 5 rfl rfl)
theorem dX4_append_31 : decode cX4_append 31 = .ok (.if_icmp .ne 9, 3) := dk_160 0 9 (dk_at dksX4_append_1 7 rfl rfl)
theorem dX4_append_34 : decode cX4_append 34 = .ok (.aload_n 0, 1) := dk_42 (dk_at dksX4_append_1 10 rfl rfl)
theorem dX4_append_35 : decode cX4_append 35 = .ok (.iconst 2, 1) := dk_5 (dk_at dksX4_append_1 11 rfl rfl)
theorem dX4_append_36 : decode cX4_append 36 = .ok (.invokevirtual 60, 3) := dk_182 0 60 (dk_at dksX4_append_1 12 rfl rfl)
theorem dX4_append_39 : decode cX4_append 39 = .ok (.ireturn, 1) := dk_172 (dk_at dksX4_append_1 15 rfl rfl)
theorem dX4_append_40 : decode cX4_append 40 = .ok (.aload_n 0, 1) := dk_42 (dk_at dksX4_append_1 16 rfl rfl)
theorem dX4_append_41 : decode cX4_append 41 = .ok (.getfield 35, 3) := dk_180 0 35 (dk_at dksX4_append_1 17 rfl rfl)
theorem dX4_append_44 : decode cX4_append 44 = .ok (.aload_n 0, 1) := dk_42 (dk_at dksX4_append_1 20 rfl rfl)
theorem dX4_append_45 : decode cX4_append 45 = .ok (.getfield 228, 3) := dk_180 0 228 (dk_at dksX4_append_1 21 rfl rfl)
theorem dX4_append_48 : decode cX4_append 48 = .ok (.iload_n 1, 1) := dk_27 (dk_at dksX4_append_2 0 rfl rfl)
theorem dX4_append_49 : decode cX4_append 49 = .ok (.iastore, 1) := dk_79 (dk_at dksX4_append_2 1 rfl rfl)
theorem dX4_append_50 : decode cX4_append 50 = .ok (.aload_n 0, 1) := dk_42 (dk_at dksX4_append_2 2 rfl rfl)
theorem dX4_append_51 : decode cX4_append 51 = .ok (.dup, 1) := dk_89 (dk_at dksX4_append_2 3 rfl rfl)
theorem dX4_append_52 : decode cX4_append 52 = .ok (.getfield 228, 3) := dk_180 0 228 (dk_at dksX4_append_2 4 rfl rfl)
theorem dX4_append_55 : decode cX4_append 55 = .ok (.iconst 1, 1) := dk_4 (dk_at dksX4_append_2 7 rfl rfl)
theorem dX4_append_56 : decode cX4_append 56 = .ok (.iadd, 1) := dk_96 (dk_at dksX4_append_2 8 rfl rfl)
theorem dX4_append_57 : decode cX4_append 57 = .ok (.putfield 228, 3) := dk_181 0 228 (dk_at dksX4_append_2 9 rfl rfl)
theorem dX4_append_60 : decode cX4_append 60 = .ok (.aload_n 0, 1) := dk_42 (dk_at dksX4_append_2 12 rfl rfl)
theorem dX4_append_61 : decode cX4_append 61 = .ok (.getfield 228, 3) := dk_180 0 228 (dk_at dksX4_append_2 13 rfl rfl)
theorem dX4_append_64 : decode cX4_append 64 = .ok (.ireturn, 1) := dk_172 (dk_at dksX4_append_2 16 rfl rfl)
abbrev cX4_read : ByteArray := prog_17_method_86_code
def yX4_read : MethodName := ⟨RX4, "read", "()I"⟩
def dkwX4_read_8 : List UInt8 := [28, 29, 182, 1, 20, 172, 132, 2, 1, 167, 255, 168, 42, 42, 180, 0, 255, 182, 0, 85, 172]
abbrev dktX4_read_8 : List UInt8 := dkwX4_read_8 ++ []
def dkwX4_read_7 : List UInt8 := [162, 0, 23, 42, 180, 0, 9, 21, 4, 42, 180, 0, 13, 21, 4, 46, 79, 132, 4, 1, 167, 255, 231, 42]
abbrev dktX4_read_7 : List UInt8 := dkwX4_read_7 ++ dktX4_read_8
def dkwX4_read_6 : List UInt8 := [104, 46, 184, 1, 17, 160, 0, 7, 4, 167, 0, 4, 3, 62, 3, 54, 4, 21, 4, 17, 1, 50]
abbrev dktX4_read_6 : List UInt8 := dkwX4_read_6 ++ dktX4_read_7
def dkwX4_read_5 : List UInt8 := [6, 28, 104, 182, 1, 14, 87, 42, 180, 0, 54, 158, 0, 65, 42, 180, 0, 54, 42, 180, 0, 51, 6, 28]
abbrev dktX4_read_5 : List UInt8 := dkwX4_read_5 ++ dktX4_read_6
def dkwX4_read_4 : List UInt8 := [42, 180, 0, 235, 181, 0, 31, 42, 4, 182, 0, 60, 172, 3, 61, 28, 42, 180, 0, 255, 162, 0, 86, 42]
abbrev dktX4_read_4 : List UInt8 := dkwX4_read_4 ++ dktX4_read_5
def dkwX4_read_3 : List UInt8 := [154, 0, 7, 4, 167, 0, 4, 3, 60, 167, 255, 201, 42, 182, 0, 79, 42, 180, 0, 241, 153, 0, 17, 42]
abbrev dktX4_read_3 : List UInt8 := dkwX4_read_3 ++ dktX4_read_4
def dkwX4_read_2 : List UInt8 := [162, 0, 7, 4, 167, 0, 4, 3, 60, 27, 153, 255, 223, 42, 16, 59, 182, 1, 5, 42, 180, 0, 241]
abbrev dktX4_read_2 : List UInt8 := dkwX4_read_2 ++ dktX4_read_3
def dkwX4_read_1 : List UInt8 := [60, 27, 153, 0, 57, 42, 182, 1, 11, 42, 180, 0, 241, 154, 0, 18, 42, 180, 0, 235, 42, 180, 0, 238]
abbrev dktX4_read_1 : List UInt8 := dkwX4_read_1 ++ dktX4_read_2
def dkwX4_read_0 : List UInt8 := [42, 42, 180, 0, 228, 181, 0, 238, 42, 3, 181, 0, 228, 42, 3, 181, 0, 235, 42, 3, 181, 0, 255, 4]
abbrev dktX4_read_0 : List UInt8 := dkwX4_read_0 ++ dktX4_read_1
theorem dksX4_read_0 : cX4_read.data.toList.drop 0 = dktX4_read_0 := by decide +kernel
theorem dksX4_read_1 : cX4_read.data.toList.drop 24 = dktX4_read_1 := dk_seg dksX4_read_0 24 rfl rfl
theorem dksX4_read_2 : cX4_read.data.toList.drop 48 = dktX4_read_2 := dk_seg dksX4_read_1 24 rfl rfl
theorem dksX4_read_3 : cX4_read.data.toList.drop 71 = dktX4_read_3 := dk_seg dksX4_read_2 23 rfl rfl
theorem dksX4_read_4 : cX4_read.data.toList.drop 95 = dktX4_read_4 := dk_seg dksX4_read_3 24 rfl rfl
theorem dksX4_read_5 : cX4_read.data.toList.drop 119 = dktX4_read_5 := dk_seg dksX4_read_4 24 rfl rfl
theorem dksX4_read_6 : cX4_read.data.toList.drop 143 = dktX4_read_6 := dk_seg dksX4_read_5 24 rfl rfl
theorem dksX4_read_7 : cX4_read.data.toList.drop 165 = dktX4_read_7 := dk_seg dksX4_read_6 22 rfl rfl
theorem dksX4_read_8 : cX4_read.data.toList.drop 189 = dktX4_read_8 := dk_seg dksX4_read_7 24 rfl rfl
theorem dX4_read_0 : decode cX4_read 0 = .ok (.aload_n 0, 1) := dk_42 (dk_at dksX4_read_0 0 rfl rfl)
theorem dX4_read_1 : decode cX4_read 1 = .ok (.aload_n 0, 1) := dk_42 (dk_at dksX4_read_0 1 rfl rfl)
theorem dX4_read_2 : decode cX4_read 2 = .ok (.getfield 228, 3) := dk_180 0 228 (dk_at dksX4_read_0 2 rfl rfl)
theorem dX4_read_5 : decode cX4_read 5 = .ok (.putfield 238, 3) := dk_181 0 238 (dk_at dksX4_read_0 5 rfl rfl)
theorem dX4_read_8 : decode cX4_read 8 = .ok (.aload_n 0, 1) := dk_42 (dk_at dksX4_read_0 8 rfl rfl)
theorem dX4_read_9 : decode cX4_read 9 = .ok (.iconst 0, 1) := dk_3 (dk_at dksX4_read_0 9 rfl rfl)
theorem dX4_read_10 : decode cX4_read 10 = .ok (.putfield 228, 3) := dk_181 0 228 (dk_at dksX4_read_0 10 rfl rfl)
theorem dX4_read_13 : decode cX4_read 13 = .ok (.aload_n 0, 1) := dk_42 (dk_at dksX4_read_0 13 rfl rfl)
theorem dX4_read_14 : decode cX4_read 14 = .ok (.iconst 0, 1) := dk_3 (dk_at dksX4_read_0 14 rfl rfl)
theorem dX4_read_15 : decode cX4_read 15 = .ok (.putfield 235, 3) := dk_181 0 235 (dk_at dksX4_read_0 15 rfl rfl)
theorem dX4_read_18 : decode cX4_read 18 = .ok (.aload_n 0, 1) := dk_42 (dk_at dksX4_read_0 18 rfl rfl)
theorem dX4_read_19 : decode cX4_read 19 = .ok (.iconst 0, 1) := dk_3 (dk_at dksX4_read_0 19 rfl rfl)
theorem dX4_read_20 : decode cX4_read 20 = .ok (.putfield 255, 3) := dk_181 0 255 (dk_at dksX4_read_0 20 rfl rfl)
theorem dX4_read_23 : decode cX4_read 23 = .ok (.iconst 1, 1) := dk_4 (dk_at dksX4_read_0 23 rfl rfl)
theorem dX4_read_24 : decode cX4_read 24 = .ok (.istore_n 1, 1) := dk_60 (dk_at dksX4_read_1 0 rfl rfl)
theorem dX4_read_25 : decode cX4_read 25 = .ok (.iload_n 1, 1) := dk_27 (dk_at dksX4_read_1 1 rfl rfl)
theorem dX4_read_26 : decode cX4_read 26 = .ok (.ifCond .eq 57, 3) := dk_153 0 57 (dk_at dksX4_read_1 2 rfl rfl)
theorem dX4_read_29 : decode cX4_read 29 = .ok (.aload_n 0, 1) := dk_42 (dk_at dksX4_read_1 5 rfl rfl)
theorem dX4_read_30 : decode cX4_read 30 = .ok (.invokevirtual 267, 3) := dk_182 1 11 (dk_at dksX4_read_1 6 rfl rfl)
theorem dX4_read_33 : decode cX4_read 33 = .ok (.aload_n 0, 1) := dk_42 (dk_at dksX4_read_1 9 rfl rfl)
theorem dX4_read_34 : decode cX4_read 34 = .ok (.getfield 241, 3) := dk_180 0 241 (dk_at dksX4_read_1 10 rfl rfl)
theorem dX4_read_37 : decode cX4_read 37 = .ok (.ifCond .ne 18, 3) := dk_154 0 18 (dk_at dksX4_read_1 13 rfl rfl)
theorem dX4_read_40 : decode cX4_read 40 = .ok (.aload_n 0, 1) := dk_42 (dk_at dksX4_read_1 16 rfl rfl)
theorem dX4_read_41 : decode cX4_read 41 = .ok (.getfield 235, 3) := dk_180 0 235 (dk_at dksX4_read_1 17 rfl rfl)
theorem dX4_read_44 : decode cX4_read 44 = .ok (.aload_n 0, 1) := dk_42 (dk_at dksX4_read_1 20 rfl rfl)
theorem dX4_read_45 : decode cX4_read 45 = .ok (.getfield 238, 3) := dk_180 0 238 (dk_at dksX4_read_1 21 rfl rfl)
theorem dX4_read_48 : decode cX4_read 48 = .ok (.if_icmp .ge 7, 3) := dk_162 0 7 (dk_at dksX4_read_2 0 rfl rfl)
theorem dX4_read_51 : decode cX4_read 51 = .ok (.iconst 1, 1) := dk_4 (dk_at dksX4_read_2 3 rfl rfl)
theorem dX4_read_52 : decode cX4_read 52 = .ok (.goto 4, 3) := dk_167 0 4 (dk_at dksX4_read_2 4 rfl rfl)
theorem dX4_read_55 : decode cX4_read 55 = .ok (.iconst 0, 1) := dk_3 (dk_at dksX4_read_2 7 rfl rfl)
theorem dX4_read_56 : decode cX4_read 56 = .ok (.istore_n 1, 1) := dk_60 (dk_at dksX4_read_2 8 rfl rfl)
theorem dX4_read_57 : decode cX4_read 57 = .ok (.iload_n 1, 1) := dk_27 (dk_at dksX4_read_2 9 rfl rfl)
theorem dX4_read_58 : decode cX4_read 58 = .ok (.ifCond .eq (-33), 3) := dk_153 255 223 (dk_at dksX4_read_2 10 rfl rfl)
theorem dX4_read_61 : decode cX4_read 61 = .ok (.aload_n 0, 1) := dk_42 (dk_at dksX4_read_2 13 rfl rfl)
theorem dX4_read_62 : decode cX4_read 62 = .ok (.bipush 59, 2) := dk_16 59 (dk_at dksX4_read_2 14 rfl rfl)
theorem dX4_read_64 : decode cX4_read 64 = .ok (.invokevirtual 261, 3) := dk_182 1 5 (dk_at dksX4_read_2 16 rfl rfl)
theorem dX4_read_67 : decode cX4_read 67 = .ok (.aload_n 0, 1) := dk_42 (dk_at dksX4_read_2 19 rfl rfl)
theorem dX4_read_68 : decode cX4_read 68 = .ok (.getfield 241, 3) := dk_180 0 241 (dk_at dksX4_read_2 20 rfl rfl)
theorem dX4_read_71 : decode cX4_read 71 = .ok (.ifCond .ne 7, 3) := dk_154 0 7 (dk_at dksX4_read_3 0 rfl rfl)
theorem dX4_read_74 : decode cX4_read 74 = .ok (.iconst 1, 1) := dk_4 (dk_at dksX4_read_3 3 rfl rfl)
theorem dX4_read_75 : decode cX4_read 75 = .ok (.goto 4, 3) := dk_167 0 4 (dk_at dksX4_read_3 4 rfl rfl)
theorem dX4_read_78 : decode cX4_read 78 = .ok (.iconst 0, 1) := dk_3 (dk_at dksX4_read_3 7 rfl rfl)
theorem dX4_read_79 : decode cX4_read 79 = .ok (.istore_n 1, 1) := dk_60 (dk_at dksX4_read_3 8 rfl rfl)
theorem dX4_read_80 : decode cX4_read 80 = .ok (.goto (-55), 3) := dk_167 255 201 (dk_at dksX4_read_3 9 rfl rfl)
theorem dX4_read_83 : decode cX4_read 83 = .ok (.aload_n 0, 1) := dk_42 (dk_at dksX4_read_3 12 rfl rfl)
theorem dX4_read_84 : decode cX4_read 84 = .ok (.invokevirtual 79, 3) := dk_182 0 79 (dk_at dksX4_read_3 13 rfl rfl)
theorem dX4_read_87 : decode cX4_read 87 = .ok (.aload_n 0, 1) := dk_42 (dk_at dksX4_read_3 16 rfl rfl)
theorem dX4_read_88 : decode cX4_read 88 = .ok (.getfield 241, 3) := dk_180 0 241 (dk_at dksX4_read_3 17 rfl rfl)
theorem dX4_read_91 : decode cX4_read 91 = .ok (.ifCond .eq 17, 3) := dk_153 0 17 (dk_at dksX4_read_3 20 rfl rfl)
theorem dX4_read_94 : decode cX4_read 94 = .ok (.aload_n 0, 1) := dk_42 (dk_at dksX4_read_3 23 rfl rfl)
theorem dX4_read_95 : decode cX4_read 95 = .ok (.aload_n 0, 1) := dk_42 (dk_at dksX4_read_4 0 rfl rfl)
theorem dX4_read_96 : decode cX4_read 96 = .ok (.getfield 235, 3) := dk_180 0 235 (dk_at dksX4_read_4 1 rfl rfl)
theorem dX4_read_99 : decode cX4_read 99 = .ok (.putfield 31, 3) := dk_181 0 31 (dk_at dksX4_read_4 4 rfl rfl)
theorem dX4_read_102 : decode cX4_read 102 = .ok (.aload_n 0, 1) := dk_42 (dk_at dksX4_read_4 7 rfl rfl)
theorem dX4_read_103 : decode cX4_read 103 = .ok (.iconst 1, 1) := dk_4 (dk_at dksX4_read_4 8 rfl rfl)
theorem dX4_read_104 : decode cX4_read 104 = .ok (.invokevirtual 60, 3) := dk_182 0 60 (dk_at dksX4_read_4 9 rfl rfl)
theorem dX4_read_107 : decode cX4_read 107 = .ok (.ireturn, 1) := dk_172 (dk_at dksX4_read_4 12 rfl rfl)
theorem dX4_read_108 : decode cX4_read 108 = .ok (.iconst 0, 1) := dk_3 (dk_at dksX4_read_4 13 rfl rfl)
theorem dX4_read_109 : decode cX4_read 109 = .ok (.istore_n 2, 1) := dk_61 (dk_at dksX4_read_4 14 rfl rfl)
theorem dX4_read_110 : decode cX4_read 110 = .ok (.iload_n 2, 1) := dk_28 (dk_at dksX4_read_4 15 rfl rfl)
theorem dX4_read_111 : decode cX4_read 111 = .ok (.aload_n 0, 1) := dk_42 (dk_at dksX4_read_4 16 rfl rfl)
theorem dX4_read_112 : decode cX4_read 112 = .ok (.getfield 255, 3) := dk_180 0 255 (dk_at dksX4_read_4 17 rfl rfl)
theorem dX4_read_115 : decode cX4_read 115 = .ok (.if_icmp .ge 86, 3) := dk_162 0 86 (dk_at dksX4_read_4 20 rfl rfl)
theorem dX4_read_118 : decode cX4_read 118 = .ok (.aload_n 0, 1) := dk_42 (dk_at dksX4_read_4 23 rfl rfl)
theorem dX4_read_119 : decode cX4_read 119 = .ok (.iconst 3, 1) := dk_6 (dk_at dksX4_read_5 0 rfl rfl)
theorem dX4_read_120 : decode cX4_read 120 = .ok (.iload_n 2, 1) := dk_28 (dk_at dksX4_read_5 1 rfl rfl)
theorem dX4_read_121 : decode cX4_read 121 = .ok (.imul, 1) := dk_104 (dk_at dksX4_read_5 2 rfl rfl)
theorem dX4_read_122 : decode cX4_read 122 = .ok (.invokevirtual 270, 3) := dk_182 1 14 (dk_at dksX4_read_5 3 rfl rfl)
theorem dX4_read_125 : decode cX4_read 125 = .ok (.pop, 1) := dk_87 (dk_at dksX4_read_5 6 rfl rfl)
theorem dX4_read_126 : decode cX4_read 126 = .ok (.aload_n 0, 1) := dk_42 (dk_at dksX4_read_5 7 rfl rfl)
theorem dX4_read_127 : decode cX4_read 127 = .ok (.getfield 54, 3) := dk_180 0 54 (dk_at dksX4_read_5 8 rfl rfl)
theorem dX4_read_130 : decode cX4_read 130 = .ok (.ifCond .le 65, 3) := dk_158 0 65 (dk_at dksX4_read_5 11 rfl rfl)
theorem dX4_read_133 : decode cX4_read 133 = .ok (.aload_n 0, 1) := dk_42 (dk_at dksX4_read_5 14 rfl rfl)
theorem dX4_read_134 : decode cX4_read 134 = .ok (.getfield 54, 3) := dk_180 0 54 (dk_at dksX4_read_5 15 rfl rfl)
theorem dX4_read_137 : decode cX4_read 137 = .ok (.aload_n 0, 1) := dk_42 (dk_at dksX4_read_5 18 rfl rfl)
theorem dX4_read_138 : decode cX4_read 138 = .ok (.getfield 51, 3) := dk_180 0 51 (dk_at dksX4_read_5 19 rfl rfl)
theorem dX4_read_141 : decode cX4_read 141 = .ok (.iconst 3, 1) := dk_6 (dk_at dksX4_read_5 22 rfl rfl)
theorem dX4_read_142 : decode cX4_read 142 = .ok (.iload_n 2, 1) := dk_28 (dk_at dksX4_read_5 23 rfl rfl)
theorem dX4_read_143 : decode cX4_read 143 = .ok (.imul, 1) := dk_104 (dk_at dksX4_read_6 0 rfl rfl)
theorem dX4_read_144 : decode cX4_read 144 = .ok (.iaload, 1) := dk_46 (dk_at dksX4_read_6 1 rfl rfl)
theorem dX4_read_145 : decode cX4_read 145 = .ok (.invokestatic 273, 3) := dk_184 1 17 (dk_at dksX4_read_6 2 rfl rfl)
theorem dX4_read_148 : decode cX4_read 148 = .ok (.if_icmp .ne 7, 3) := dk_160 0 7 (dk_at dksX4_read_6 5 rfl rfl)
theorem dX4_read_151 : decode cX4_read 151 = .ok (.iconst 1, 1) := dk_4 (dk_at dksX4_read_6 8 rfl rfl)
theorem dX4_read_152 : decode cX4_read 152 = .ok (.goto 4, 3) := dk_167 0 4 (dk_at dksX4_read_6 9 rfl rfl)
theorem dX4_read_155 : decode cX4_read 155 = .ok (.iconst 0, 1) := dk_3 (dk_at dksX4_read_6 12 rfl rfl)
theorem dX4_read_156 : decode cX4_read 156 = .ok (.istore_n 3, 1) := dk_62 (dk_at dksX4_read_6 13 rfl rfl)
theorem dX4_read_157 : decode cX4_read 157 = .ok (.iconst 0, 1) := dk_3 (dk_at dksX4_read_6 14 rfl rfl)
theorem dX4_read_158 : decode cX4_read 158 = .ok (.istore 4, 2) := dk_54 4 (dk_at dksX4_read_6 15 rfl rfl)
theorem dX4_read_160 : decode cX4_read 160 = .ok (.iload 4, 2) := dk_21 4 (dk_at dksX4_read_6 17 rfl rfl)
theorem dX4_read_162 : decode cX4_read 162 = .ok (.sipush 306, 3) := dk_17 1 50 (dk_at dksX4_read_6 19 rfl rfl)
theorem dX4_read_165 : decode cX4_read 165 = .ok (.if_icmp .ge 23, 3) := dk_162 0 23 (dk_at dksX4_read_7 0 rfl rfl)
theorem dX4_read_168 : decode cX4_read 168 = .ok (.aload_n 0, 1) := dk_42 (dk_at dksX4_read_7 3 rfl rfl)
theorem dX4_read_169 : decode cX4_read 169 = .ok (.getfield 9, 3) := dk_180 0 9 (dk_at dksX4_read_7 4 rfl rfl)
theorem dX4_read_172 : decode cX4_read 172 = .ok (.iload 4, 2) := dk_21 4 (dk_at dksX4_read_7 7 rfl rfl)
theorem dX4_read_174 : decode cX4_read 174 = .ok (.aload_n 0, 1) := dk_42 (dk_at dksX4_read_7 9 rfl rfl)
theorem dX4_read_175 : decode cX4_read 175 = .ok (.getfield 13, 3) := dk_180 0 13 (dk_at dksX4_read_7 10 rfl rfl)
theorem dX4_read_178 : decode cX4_read 178 = .ok (.iload 4, 2) := dk_21 4 (dk_at dksX4_read_7 13 rfl rfl)
theorem dX4_read_180 : decode cX4_read 180 = .ok (.iaload, 1) := dk_46 (dk_at dksX4_read_7 15 rfl rfl)
theorem dX4_read_181 : decode cX4_read 181 = .ok (.iastore, 1) := dk_79 (dk_at dksX4_read_7 16 rfl rfl)
theorem dX4_read_182 : decode cX4_read 182 = .ok (.iinc 4 1, 3) := dk_132 4 1 (dk_at dksX4_read_7 17 rfl rfl)
theorem dX4_read_185 : decode cX4_read 185 = .ok (.goto (-25), 3) := dk_167 255 231 (dk_at dksX4_read_7 20 rfl rfl)
theorem dX4_read_188 : decode cX4_read 188 = .ok (.aload_n 0, 1) := dk_42 (dk_at dksX4_read_7 23 rfl rfl)
theorem dX4_read_189 : decode cX4_read 189 = .ok (.iload_n 2, 1) := dk_28 (dk_at dksX4_read_8 0 rfl rfl)
theorem dX4_read_190 : decode cX4_read 190 = .ok (.iload_n 3, 1) := dk_29 (dk_at dksX4_read_8 1 rfl rfl)
theorem dX4_read_191 : decode cX4_read 191 = .ok (.invokevirtual 276, 3) := dk_182 1 20 (dk_at dksX4_read_8 2 rfl rfl)
theorem dX4_read_194 : decode cX4_read 194 = .ok (.ireturn, 1) := dk_172 (dk_at dksX4_read_8 5 rfl rfl)
theorem dX4_read_195 : decode cX4_read 195 = .ok (.iinc 2 1, 3) := dk_132 2 1 (dk_at dksX4_read_8 6 rfl rfl)
theorem dX4_read_198 : decode cX4_read 198 = .ok (.goto (-88), 3) := dk_167 255 168 (dk_at dksX4_read_8 9 rfl rfl)
theorem dX4_read_201 : decode cX4_read 201 = .ok (.aload_n 0, 1) := dk_42 (dk_at dksX4_read_8 12 rfl rfl)
theorem dX4_read_202 : decode cX4_read 202 = .ok (.aload_n 0, 1) := dk_42 (dk_at dksX4_read_8 13 rfl rfl)
theorem dX4_read_203 : decode cX4_read 203 = .ok (.getfield 255, 3) := dk_180 0 255 (dk_at dksX4_read_8 14 rfl rfl)
theorem dX4_read_206 : decode cX4_read 206 = .ok (.invokevirtual 85, 3) := dk_182 0 85 (dk_at dksX4_read_8 17 rfl rfl)
theorem dX4_read_209 : decode cX4_read 209 = .ok (.ireturn, 1) := dk_172 (dk_at dksX4_read_8 20 rfl rfl)
abbrev cX4_readCommand : ByteArray := prog_17_method_82_code
def yX4_readCommand : MethodName := ⟨RX4, "readCommand", "()V"⟩
def dkwX4_readCommand_5 : List UInt8 := [180, 0, 255, 4, 96, 181, 0, 255, 177]
abbrev dktX4_readCommand_5 : List UInt8 := dkwX4_readCommand_5 ++ []
def dkwX4_readCommand_4 : List UInt8 := [42, 180, 0, 51, 27, 4, 96, 29, 96, 42, 182, 1, 8, 79, 132, 3, 1, 167, 255, 223, 42, 89]
abbrev dktX4_readCommand_4 : List UInt8 := dkwX4_readCommand_4 ++ dktX4_readCommand_5
def dkwX4_readCommand_3 : List UInt8 := [180, 0, 51, 27, 28, 79, 3, 62, 29, 42, 180, 0, 48, 28, 46, 162, 0, 29, 42, 16, 32, 182, 1, 5]
abbrev dktX4_readCommand_3 : List UInt8 := dkwX4_readCommand_3 ++ dktX4_readCommand_4
def dkwX4_readCommand_2 : List UInt8 := [4, 96, 46, 162, 0, 19, 42, 42, 180, 0, 41, 29, 52, 182, 1, 5, 132, 3, 1, 167, 255, 231, 42]
abbrev dktX4_readCommand_2 : List UInt8 := dkwX4_readCommand_2 ++ dktX4_readCommand_3
def dkwX4_readCommand_1 : List UInt8 := [181, 0, 241, 42, 180, 0, 241, 153, 0, 4, 177, 42, 180, 0, 45, 28, 46, 62, 29, 42, 180, 0, 45, 28]
abbrev dktX4_readCommand_1 : List UInt8 := dkwX4_readCommand_1 ++ dktX4_readCommand_2
def dkwX4_readCommand_0 : List UInt8 := [6, 42, 180, 0, 255, 104, 60, 42, 182, 1, 2, 61, 42, 28, 2, 160, 0, 7, 4, 167, 0, 4, 3]
abbrev dktX4_readCommand_0 : List UInt8 := dkwX4_readCommand_0 ++ dktX4_readCommand_1
theorem dksX4_readCommand_0 : cX4_readCommand.data.toList.drop 0 = dktX4_readCommand_0 := by decide +kernel
theorem dksX4_readCommand_1 : cX4_readCommand.data.toList.drop 23 = dktX4_readCommand_1 := dk_seg dksX4_readCommand_0 23 rfl rfl
theorem dksX4_readCommand_2 : cX4_readCommand.data.toList.drop 47 = dktX4_readCommand_2 := dk_seg dksX4_readCommand_1 24 rfl rfl
theorem dksX4_readCommand_3 : cX4_readCommand.data.toList.drop 70 = dktX4_readCommand_3 := dk_seg dksX4_readCommand_2 23 rfl rfl
theorem dksX4_readCommand_4 : cX4_readCommand.data.toList.drop 94 = dktX4_readCommand_4 := dk_seg dksX4_readCommand_3 24 rfl rfl
theorem dksX4_readCommand_5 : cX4_readCommand.data.toList.drop 116 = dktX4_readCommand_5 := dk_seg dksX4_readCommand_4 22 rfl rfl
theorem dX4_readCommand_0 : decode cX4_readCommand 0 = .ok (.iconst 3, 1) := dk_6 (dk_at dksX4_readCommand_0 0 rfl rfl)
theorem dX4_readCommand_1 : decode cX4_readCommand 1 = .ok (.aload_n 0, 1) := dk_42 (dk_at dksX4_readCommand_0 1 rfl rfl)
theorem dX4_readCommand_2 : decode cX4_readCommand 2 = .ok (.getfield 255, 3) := dk_180 0 255 (dk_at dksX4_readCommand_0 2 rfl rfl)
theorem dX4_readCommand_5 : decode cX4_readCommand 5 = .ok (.imul, 1) := dk_104 (dk_at dksX4_readCommand_0 5 rfl rfl)
theorem dX4_readCommand_6 : decode cX4_readCommand 6 = .ok (.istore_n 1, 1) := dk_60 (dk_at dksX4_readCommand_0 6 rfl rfl)
theorem dX4_readCommand_7 : decode cX4_readCommand 7 = .ok (.aload_n 0, 1) := dk_42 (dk_at dksX4_readCommand_0 7 rfl rfl)
theorem dX4_readCommand_8 : decode cX4_readCommand 8 = .ok (.invokevirtual 258, 3) := dk_182 1 2 (dk_at dksX4_readCommand_0 8 rfl rfl)
theorem dX4_readCommand_11 : decode cX4_readCommand 11 = .ok (.istore_n 2, 1) := dk_61 (dk_at dksX4_readCommand_0 11 rfl rfl)
theorem dX4_readCommand_12 : decode cX4_readCommand 12 = .ok (.aload_n 0, 1) := dk_42 (dk_at dksX4_readCommand_0 12 rfl rfl)
theorem dX4_readCommand_13 : decode cX4_readCommand 13 = .ok (.iload_n 2, 1) := dk_28 (dk_at dksX4_readCommand_0 13 rfl rfl)
theorem dX4_readCommand_14 : decode cX4_readCommand 14 = .ok (.iconst (-1), 1) := dk_2 (dk_at dksX4_readCommand_0 14 rfl rfl)
theorem dX4_readCommand_15 : decode cX4_readCommand 15 = .ok (.if_icmp .ne 7, 3) := dk_160 0 7 (dk_at dksX4_readCommand_0 15 rfl rfl)
theorem dX4_readCommand_18 : decode cX4_readCommand 18 = .ok (.iconst 1, 1) := dk_4 (dk_at dksX4_readCommand_0 18 rfl rfl)
theorem dX4_readCommand_19 : decode cX4_readCommand 19 = .ok (.goto 4, 3) := dk_167 0 4 (dk_at dksX4_readCommand_0 19 rfl rfl)
theorem dX4_readCommand_22 : decode cX4_readCommand 22 = .ok (.iconst 0, 1) := dk_3 (dk_at dksX4_readCommand_0 22 rfl rfl)
theorem dX4_readCommand_23 : decode cX4_readCommand 23 = .ok (.putfield 241, 3) := dk_181 0 241 (dk_at dksX4_readCommand_1 0 rfl rfl)
theorem dX4_readCommand_26 : decode cX4_readCommand 26 = .ok (.aload_n 0, 1) := dk_42 (dk_at dksX4_readCommand_1 3 rfl rfl)
theorem dX4_readCommand_27 : decode cX4_readCommand 27 = .ok (.getfield 241, 3) := dk_180 0 241 (dk_at dksX4_readCommand_1 4 rfl rfl)
theorem dX4_readCommand_30 : decode cX4_readCommand 30 = .ok (.ifCond .eq 4, 3) := dk_153 0 4 (dk_at dksX4_readCommand_1 7 rfl rfl)
theorem dX4_readCommand_33 : decode cX4_readCommand 33 = .ok (.return_, 1) := dk_177 (dk_at dksX4_readCommand_1 10 rfl rfl)
theorem dX4_readCommand_34 : decode cX4_readCommand 34 = .ok (.aload_n 0, 1) := dk_42 (dk_at dksX4_readCommand_1 11 rfl rfl)
theorem dX4_readCommand_35 : decode cX4_readCommand 35 = .ok (.getfield 45, 3) := dk_180 0 45 (dk_at dksX4_readCommand_1 12 rfl rfl)
theorem dX4_readCommand_38 : decode cX4_readCommand 38 = .ok (.iload_n 2, 1) := dk_28 (dk_at dksX4_readCommand_1 15 rfl rfl)
theorem dX4_readCommand_39 : decode cX4_readCommand 39 = .ok (.iaload, 1) := dk_46 (dk_at dksX4_readCommand_1 16 rfl rfl)
theorem dX4_readCommand_40 : decode cX4_readCommand 40 = .ok (.istore_n 3, 1) := dk_62 (dk_at dksX4_readCommand_1 17 rfl rfl)
theorem dX4_readCommand_41 : decode cX4_readCommand 41 = .ok (.iload_n 3, 1) := dk_29 (dk_at dksX4_readCommand_1 18 rfl rfl)
theorem dX4_readCommand_42 : decode cX4_readCommand 42 = .ok (.aload_n 0, 1) := dk_42 (dk_at dksX4_readCommand_1 19 rfl rfl)
theorem dX4_readCommand_43 : decode cX4_readCommand 43 = .ok (.getfield 45, 3) := dk_180 0 45 (dk_at dksX4_readCommand_1 20 rfl rfl)
theorem dX4_readCommand_46 : decode cX4_readCommand 46 = .ok (.iload_n 2, 1) := dk_28 (dk_at dksX4_readCommand_1 23 rfl rfl)
theorem dX4_readCommand_47 : decode cX4_readCommand 47 = .ok (.iconst 1, 1) := dk_4 (dk_at dksX4_readCommand_2 0 rfl rfl)
theorem dX4_readCommand_48 : decode cX4_readCommand 48 = .ok (.iadd, 1) := dk_96 (dk_at dksX4_readCommand_2 1 rfl rfl)
theorem dX4_readCommand_49 : decode cX4_readCommand 49 = .ok (.iaload, 1) := dk_46 (dk_at dksX4_readCommand_2 2 rfl rfl)
theorem dX4_readCommand_50 : decode cX4_readCommand 50 = .ok (.if_icmp .ge 19, 3) := dk_162 0 19 (dk_at dksX4_readCommand_2 3 rfl rfl)
theorem dX4_readCommand_53 : decode cX4_readCommand 53 = .ok (.aload_n 0, 1) := dk_42 (dk_at dksX4_readCommand_2 6 rfl rfl)
theorem dX4_readCommand_54 : decode cX4_readCommand 54 = .ok (.aload_n 0, 1) := dk_42 (dk_at dksX4_readCommand_2 7 rfl rfl)
theorem dX4_readCommand_55 : decode cX4_readCommand 55 = .ok (.getfield 41, 3) := dk_180 0 41 (dk_at dksX4_readCommand_2 8 rfl rfl)
theorem dX4_readCommand_58 : decode cX4_readCommand 58 = .ok (.iload_n 3, 1) := dk_29 (dk_at dksX4_readCommand_2 11 rfl rfl)
theorem dX4_readCommand_59 : decode cX4_readCommand 59 = .ok (.caload, 1) := dk_52 (dk_at dksX4_readCommand_2 12 rfl rfl)
theorem dX4_readCommand_60 : decode cX4_readCommand 60 = .ok (.invokevirtual 261, 3) := dk_182 1 5 (dk_at dksX4_readCommand_2 13 rfl rfl)
theorem dX4_readCommand_63 : decode cX4_readCommand 63 = .ok (.iinc 3 1, 3) := dk_132 3 1 (dk_at dksX4_readCommand_2 16 rfl rfl)
theorem dX4_readCommand_66 : decode cX4_readCommand 66 = .ok (.goto (-25), 3) := dk_167 255 231 (dk_at dksX4_readCommand_2 19 rfl rfl)
theorem dX4_readCommand_69 : decode cX4_readCommand 69 = .ok (.aload_n 0, 1) := dk_42 (dk_at dksX4_readCommand_2 22 rfl rfl)
theorem dX4_readCommand_70 : decode cX4_readCommand 70 = .ok (.getfield 51, 3) := dk_180 0 51 (dk_at dksX4_readCommand_3 0 rfl rfl)
theorem dX4_readCommand_73 : decode cX4_readCommand 73 = .ok (.iload_n 1, 1) := dk_27 (dk_at dksX4_readCommand_3 3 rfl rfl)
theorem dX4_readCommand_74 : decode cX4_readCommand 74 = .ok (.iload_n 2, 1) := dk_28 (dk_at dksX4_readCommand_3 4 rfl rfl)
theorem dX4_readCommand_75 : decode cX4_readCommand 75 = .ok (.iastore, 1) := dk_79 (dk_at dksX4_readCommand_3 5 rfl rfl)
theorem dX4_readCommand_76 : decode cX4_readCommand 76 = .ok (.iconst 0, 1) := dk_3 (dk_at dksX4_readCommand_3 6 rfl rfl)
theorem dX4_readCommand_77 : decode cX4_readCommand 77 = .ok (.istore_n 3, 1) := dk_62 (dk_at dksX4_readCommand_3 7 rfl rfl)
theorem dX4_readCommand_78 : decode cX4_readCommand 78 = .ok (.iload_n 3, 1) := dk_29 (dk_at dksX4_readCommand_3 8 rfl rfl)
theorem dX4_readCommand_79 : decode cX4_readCommand 79 = .ok (.aload_n 0, 1) := dk_42 (dk_at dksX4_readCommand_3 9 rfl rfl)
theorem dX4_readCommand_80 : decode cX4_readCommand 80 = .ok (.getfield 48, 3) := dk_180 0 48 (dk_at dksX4_readCommand_3 10 rfl rfl)
theorem dX4_readCommand_83 : decode cX4_readCommand 83 = .ok (.iload_n 2, 1) := dk_28 (dk_at dksX4_readCommand_3 13 rfl rfl)
theorem dX4_readCommand_84 : decode cX4_readCommand 84 = .ok (.iaload, 1) := dk_46 (dk_at dksX4_readCommand_3 14 rfl rfl)
theorem dX4_readCommand_85 : decode cX4_readCommand 85 = .ok (.if_icmp .ge 29, 3) := dk_162 0 29 (dk_at dksX4_readCommand_3 15 rfl rfl)
theorem dX4_readCommand_88 : decode cX4_readCommand 88 = .ok (.aload_n 0, 1) := dk_42 (dk_at dksX4_readCommand_3 18 rfl rfl)
theorem dX4_readCommand_89 : decode cX4_readCommand 89 = .ok (.bipush 32, 2) := dk_16 32 (dk_at dksX4_readCommand_3 19 rfl rfl)
theorem dX4_readCommand_91 : decode cX4_readCommand 91 = .ok (.invokevirtual 261, 3) := dk_182 1 5 (dk_at dksX4_readCommand_3 21 rfl rfl)
theorem dX4_readCommand_94 : decode cX4_readCommand 94 = .ok (.aload_n 0, 1) := dk_42 (dk_at dksX4_readCommand_4 0 rfl rfl)
theorem dX4_readCommand_95 : decode cX4_readCommand 95 = .ok (.getfield 51, 3) := dk_180 0 51 (dk_at dksX4_readCommand_4 1 rfl rfl)
theorem dX4_readCommand_98 : decode cX4_readCommand 98 = .ok (.iload_n 1, 1) := dk_27 (dk_at dksX4_readCommand_4 4 rfl rfl)
theorem dX4_readCommand_99 : decode cX4_readCommand 99 = .ok (.iconst 1, 1) := dk_4 (dk_at dksX4_readCommand_4 5 rfl rfl)
theorem dX4_readCommand_100 : decode cX4_readCommand 100 = .ok (.iadd, 1) := dk_96 (dk_at dksX4_readCommand_4 6 rfl rfl)
theorem dX4_readCommand_101 : decode cX4_readCommand 101 = .ok (.iload_n 3, 1) := dk_29 (dk_at dksX4_readCommand_4 7 rfl rfl)
theorem dX4_readCommand_102 : decode cX4_readCommand 102 = .ok (.iadd, 1) := dk_96 (dk_at dksX4_readCommand_4 8 rfl rfl)
theorem dX4_readCommand_103 : decode cX4_readCommand 103 = .ok (.aload_n 0, 1) := dk_42 (dk_at dksX4_readCommand_4 9 rfl rfl)
theorem dX4_readCommand_104 : decode cX4_readCommand 104 = .ok (.invokevirtual 264, 3) := dk_182 1 8 (dk_at dksX4_readCommand_4 10 rfl rfl)
theorem dX4_readCommand_107 : decode cX4_readCommand 107 = .ok (.iastore, 1) := dk_79 (dk_at dksX4_readCommand_4 13 rfl rfl)
theorem dX4_readCommand_108 : decode cX4_readCommand 108 = .ok (.iinc 3 1, 3) := dk_132 3 1 (dk_at dksX4_readCommand_4 14 rfl rfl)
theorem dX4_readCommand_111 : decode cX4_readCommand 111 = .ok (.goto (-33), 3) := dk_167 255 223 (dk_at dksX4_readCommand_4 17 rfl rfl)
theorem dX4_readCommand_114 : decode cX4_readCommand 114 = .ok (.aload_n 0, 1) := dk_42 (dk_at dksX4_readCommand_4 20 rfl rfl)
theorem dX4_readCommand_115 : decode cX4_readCommand 115 = .ok (.dup, 1) := dk_89 (dk_at dksX4_readCommand_4 21 rfl rfl)
theorem dX4_readCommand_116 : decode cX4_readCommand 116 = .ok (.getfield 255, 3) := dk_180 0 255 (dk_at dksX4_readCommand_5 0 rfl rfl)
theorem dX4_readCommand_119 : decode cX4_readCommand 119 = .ok (.iconst 1, 1) := dk_4 (dk_at dksX4_readCommand_5 3 rfl rfl)
theorem dX4_readCommand_120 : decode cX4_readCommand 120 = .ok (.iadd, 1) := dk_96 (dk_at dksX4_readCommand_5 4 rfl rfl)
theorem dX4_readCommand_121 : decode cX4_readCommand 121 = .ok (.putfield 255, 3) := dk_181 0 255 (dk_at dksX4_readCommand_5 5 rfl rfl)
theorem dX4_readCommand_124 : decode cX4_readCommand 124 = .ok (.return_, 1) := dk_177 (dk_at dksX4_readCommand_5 8 rfl rfl)
abbrev cX4_wordHere : ByteArray := prog_17_method_81_code
def yX4_wordHere : MethodName := ⟨RX4, "wordHere", "()I"⟩
def dkwX4_wordHere_1 : List UInt8 := [52, 160, 0, 7, 28, 167, 0, 4, 27, 60, 132, 2, 1, 167, 255, 223, 27, 172]
abbrev dktX4_wordHere_1 : List UInt8 := dkwX4_wordHere_1 ++ []
def dkwX4_wordHere_0 : List UInt8 := [2, 60, 3, 61, 28, 16, 7, 162, 0, 33, 42, 182, 0, 245, 42, 180, 0, 41, 42, 180, 0, 45, 28, 46]
abbrev dktX4_wordHere_0 : List UInt8 := dkwX4_wordHere_0 ++ dktX4_wordHere_1
theorem dksX4_wordHere_0 : cX4_wordHere.data.toList.drop 0 = dktX4_wordHere_0 := by decide +kernel
theorem dksX4_wordHere_1 : cX4_wordHere.data.toList.drop 24 = dktX4_wordHere_1 := dk_seg dksX4_wordHere_0 24 rfl rfl
theorem dX4_wordHere_0 : decode cX4_wordHere 0 = .ok (.iconst (-1), 1) := dk_2 (dk_at dksX4_wordHere_0 0 rfl rfl)
theorem dX4_wordHere_1 : decode cX4_wordHere 1 = .ok (.istore_n 1, 1) := dk_60 (dk_at dksX4_wordHere_0 1 rfl rfl)
theorem dX4_wordHere_2 : decode cX4_wordHere 2 = .ok (.iconst 0, 1) := dk_3 (dk_at dksX4_wordHere_0 2 rfl rfl)
theorem dX4_wordHere_3 : decode cX4_wordHere 3 = .ok (.istore_n 2, 1) := dk_61 (dk_at dksX4_wordHere_0 3 rfl rfl)
theorem dX4_wordHere_4 : decode cX4_wordHere 4 = .ok (.iload_n 2, 1) := dk_28 (dk_at dksX4_wordHere_0 4 rfl rfl)
theorem dX4_wordHere_5 : decode cX4_wordHere 5 = .ok (.bipush 7, 2) := dk_16 7 (dk_at dksX4_wordHere_0 5 rfl rfl)
theorem dX4_wordHere_7 : decode cX4_wordHere 7 = .ok (.if_icmp .ge 33, 3) := dk_162 0 33 (dk_at dksX4_wordHere_0 7 rfl rfl)
theorem dX4_wordHere_10 : decode cX4_wordHere 10 = .ok (.aload_n 0, 1) := dk_42 (dk_at dksX4_wordHere_0 10 rfl rfl)
theorem dX4_wordHere_11 : decode cX4_wordHere 11 = .ok (.invokevirtual 245, 3) := dk_182 0 245 (dk_at dksX4_wordHere_0 11 rfl rfl)
theorem dX4_wordHere_14 : decode cX4_wordHere 14 = .ok (.aload_n 0, 1) := dk_42 (dk_at dksX4_wordHere_0 14 rfl rfl)
theorem dX4_wordHere_15 : decode cX4_wordHere 15 = .ok (.getfield 41, 3) := dk_180 0 41 (dk_at dksX4_wordHere_0 15 rfl rfl)
theorem dX4_wordHere_18 : decode cX4_wordHere 18 = .ok (.aload_n 0, 1) := dk_42 (dk_at dksX4_wordHere_0 18 rfl rfl)
theorem dX4_wordHere_19 : decode cX4_wordHere 19 = .ok (.getfield 45, 3) := dk_180 0 45 (dk_at dksX4_wordHere_0 19 rfl rfl)
theorem dX4_wordHere_22 : decode cX4_wordHere 22 = .ok (.iload_n 2, 1) := dk_28 (dk_at dksX4_wordHere_0 22 rfl rfl)
theorem dX4_wordHere_23 : decode cX4_wordHere 23 = .ok (.iaload, 1) := dk_46 (dk_at dksX4_wordHere_0 23 rfl rfl)
theorem dX4_wordHere_24 : decode cX4_wordHere 24 = .ok (.caload, 1) := dk_52 (dk_at dksX4_wordHere_1 0 rfl rfl)
theorem dX4_wordHere_25 : decode cX4_wordHere 25 = .ok (.if_icmp .ne 7, 3) := dk_160 0 7 (dk_at dksX4_wordHere_1 1 rfl rfl)
theorem dX4_wordHere_28 : decode cX4_wordHere 28 = .ok (.iload_n 2, 1) := dk_28 (dk_at dksX4_wordHere_1 4 rfl rfl)
theorem dX4_wordHere_29 : decode cX4_wordHere 29 = .ok (.goto 4, 3) := dk_167 0 4 (dk_at dksX4_wordHere_1 5 rfl rfl)
theorem dX4_wordHere_32 : decode cX4_wordHere 32 = .ok (.iload_n 1, 1) := dk_27 (dk_at dksX4_wordHere_1 8 rfl rfl)
theorem dX4_wordHere_33 : decode cX4_wordHere 33 = .ok (.istore_n 1, 1) := dk_60 (dk_at dksX4_wordHere_1 9 rfl rfl)
theorem dX4_wordHere_34 : decode cX4_wordHere 34 = .ok (.iinc 2 1, 3) := dk_132 2 1 (dk_at dksX4_wordHere_1 10 rfl rfl)
theorem dX4_wordHere_37 : decode cX4_wordHere 37 = .ok (.goto (-33), 3) := dk_167 255 223 (dk_at dksX4_wordHere_1 13 rfl rfl)
theorem dX4_wordHere_40 : decode cX4_wordHere 40 = .ok (.iload_n 1, 1) := dk_27 (dk_at dksX4_wordHere_1 16 rfl rfl)
theorem dX4_wordHere_41 : decode cX4_wordHere 41 = .ok (.ireturn, 1) := dk_172 (dk_at dksX4_wordHere_1 17 rfl rfl)
abbrev cX4_here : ByteArray := prog_17_method_77_code
def yX4_here : MethodName := ⟨RX4, "here", "()I"⟩
def dkwX4_here_1 : List UInt8 := [172]
abbrev dktX4_here_1 : List UInt8 := dkwX4_here_1 ++ []
def dkwX4_here_0 : List UInt8 := [42, 180, 0, 235, 42, 180, 0, 238, 162, 0, 15, 42, 180, 0, 35, 42, 180, 0, 235, 46, 167, 0, 4, 2]
abbrev dktX4_here_0 : List UInt8 := dkwX4_here_0 ++ dktX4_here_1
theorem dksX4_here_0 : cX4_here.data.toList.drop 0 = dktX4_here_0 := by decide +kernel
theorem dksX4_here_1 : cX4_here.data.toList.drop 24 = dktX4_here_1 := dk_seg dksX4_here_0 24 rfl rfl
theorem dX4_here_0 : decode cX4_here 0 = .ok (.aload_n 0, 1) := dk_42 (dk_at dksX4_here_0 0 rfl rfl)
theorem dX4_here_1 : decode cX4_here 1 = .ok (.getfield 235, 3) := dk_180 0 235 (dk_at dksX4_here_0 1 rfl rfl)
theorem dX4_here_4 : decode cX4_here 4 = .ok (.aload_n 0, 1) := dk_42 (dk_at dksX4_here_0 4 rfl rfl)
theorem dX4_here_5 : decode cX4_here 5 = .ok (.getfield 238, 3) := dk_180 0 238 (dk_at dksX4_here_0 5 rfl rfl)
theorem dX4_here_8 : decode cX4_here 8 = .ok (.if_icmp .ge 15, 3) := dk_162 0 15 (dk_at dksX4_here_0 8 rfl rfl)
theorem dX4_here_11 : decode cX4_here 11 = .ok (.aload_n 0, 1) := dk_42 (dk_at dksX4_here_0 11 rfl rfl)
theorem dX4_here_12 : decode cX4_here 12 = .ok (.getfield 35, 3) := dk_180 0 35 (dk_at dksX4_here_0 12 rfl rfl)
theorem dX4_here_15 : decode cX4_here 15 = .ok (.aload_n 0, 1) := dk_42 (dk_at dksX4_here_0 15 rfl rfl)
theorem dX4_here_16 : decode cX4_here 16 = .ok (.getfield 235, 3) := dk_180 0 235 (dk_at dksX4_here_0 16 rfl rfl)
theorem dX4_here_19 : decode cX4_here 19 = .ok (.iaload, 1) := dk_46 (dk_at dksX4_here_0 19 rfl rfl)
theorem dX4_here_20 : decode cX4_here 20 = .ok (.goto 4, 3) := dk_167 0 4 (dk_at dksX4_here_0 20 rfl rfl)
theorem dX4_here_23 : decode cX4_here 23 = .ok (.iconst (-1), 1) := dk_2 (dk_at dksX4_here_0 23 rfl rfl)
theorem dX4_here_24 : decode cX4_here 24 = .ok (.ireturn, 1) := dk_172 (dk_at dksX4_here_1 0 rfl rfl)
abbrev cX4_expects : ByteArray := prog_17_method_78_code
def yX4_expects : MethodName := ⟨RX4, "expects", "(I)V"⟩
def dkwX4_expects_1 : List UInt8 := [42, 89, 180, 0, 235, 42, 180, 0, 241, 153, 0, 7, 3, 167, 0, 4, 4, 96, 181, 0, 235, 177]
abbrev dktX4_expects_1 : List UInt8 := dkwX4_expects_1 ++ []
def dkwX4_expects_0 : List UInt8 := [42, 42, 180, 0, 241, 154, 0, 11, 42, 182, 0, 245, 27, 159, 0, 7, 4, 167, 0, 4, 3, 181, 0, 241]
abbrev dktX4_expects_0 : List UInt8 := dkwX4_expects_0 ++ dktX4_expects_1
theorem dksX4_expects_0 : cX4_expects.data.toList.drop 0 = dktX4_expects_0 := by decide +kernel
theorem dksX4_expects_1 : cX4_expects.data.toList.drop 24 = dktX4_expects_1 := dk_seg dksX4_expects_0 24 rfl rfl
theorem dX4_expects_0 : decode cX4_expects 0 = .ok (.aload_n 0, 1) := dk_42 (dk_at dksX4_expects_0 0 rfl rfl)
theorem dX4_expects_1 : decode cX4_expects 1 = .ok (.aload_n 0, 1) := dk_42 (dk_at dksX4_expects_0 1 rfl rfl)
theorem dX4_expects_2 : decode cX4_expects 2 = .ok (.getfield 241, 3) := dk_180 0 241 (dk_at dksX4_expects_0 2 rfl rfl)
theorem dX4_expects_5 : decode cX4_expects 5 = .ok (.ifCond .ne 11, 3) := dk_154 0 11 (dk_at dksX4_expects_0 5 rfl rfl)
theorem dX4_expects_8 : decode cX4_expects 8 = .ok (.aload_n 0, 1) := dk_42 (dk_at dksX4_expects_0 8 rfl rfl)
theorem dX4_expects_9 : decode cX4_expects 9 = .ok (.invokevirtual 245, 3) := dk_182 0 245 (dk_at dksX4_expects_0 9 rfl rfl)
theorem dX4_expects_12 : decode cX4_expects 12 = .ok (.iload_n 1, 1) := dk_27 (dk_at dksX4_expects_0 12 rfl rfl)
theorem dX4_expects_13 : decode cX4_expects 13 = .ok (.if_icmp .eq 7, 3) := dk_159 0 7 (dk_at dksX4_expects_0 13 rfl rfl)
theorem dX4_expects_16 : decode cX4_expects 16 = .ok (.iconst 1, 1) := dk_4 (dk_at dksX4_expects_0 16 rfl rfl)
theorem dX4_expects_17 : decode cX4_expects 17 = .ok (.goto 4, 3) := dk_167 0 4 (dk_at dksX4_expects_0 17 rfl rfl)
theorem dX4_expects_20 : decode cX4_expects 20 = .ok (.iconst 0, 1) := dk_3 (dk_at dksX4_expects_0 20 rfl rfl)
theorem dX4_expects_21 : decode cX4_expects 21 = .ok (.putfield 241, 3) := dk_181 0 241 (dk_at dksX4_expects_0 21 rfl rfl)
theorem dX4_expects_24 : decode cX4_expects 24 = .ok (.aload_n 0, 1) := dk_42 (dk_at dksX4_expects_1 0 rfl rfl)
theorem dX4_expects_25 : decode cX4_expects 25 = .ok (.dup, 1) := dk_89 (dk_at dksX4_expects_1 1 rfl rfl)
theorem dX4_expects_26 : decode cX4_expects 26 = .ok (.getfield 235, 3) := dk_180 0 235 (dk_at dksX4_expects_1 2 rfl rfl)
theorem dX4_expects_29 : decode cX4_expects 29 = .ok (.aload_n 0, 1) := dk_42 (dk_at dksX4_expects_1 5 rfl rfl)
theorem dX4_expects_30 : decode cX4_expects 30 = .ok (.getfield 241, 3) := dk_180 0 241 (dk_at dksX4_expects_1 6 rfl rfl)
theorem dX4_expects_33 : decode cX4_expects 33 = .ok (.ifCond .eq 7, 3) := dk_153 0 7 (dk_at dksX4_expects_1 9 rfl rfl)
theorem dX4_expects_36 : decode cX4_expects 36 = .ok (.iconst 0, 1) := dk_3 (dk_at dksX4_expects_1 12 rfl rfl)
theorem dX4_expects_37 : decode cX4_expects 37 = .ok (.goto 4, 3) := dk_167 0 4 (dk_at dksX4_expects_1 13 rfl rfl)
theorem dX4_expects_40 : decode cX4_expects 40 = .ok (.iconst 1, 1) := dk_4 (dk_at dksX4_expects_1 16 rfl rfl)
theorem dX4_expects_41 : decode cX4_expects 41 = .ok (.iadd, 1) := dk_96 (dk_at dksX4_expects_1 17 rfl rfl)
theorem dX4_expects_42 : decode cX4_expects 42 = .ok (.putfield 235, 3) := dk_181 0 235 (dk_at dksX4_expects_1 18 rfl rfl)
theorem dX4_expects_45 : decode cX4_expects 45 = .ok (.return_, 1) := dk_177 (dk_at dksX4_expects_1 21 rfl rfl)
abbrev cX4_number : ByteArray := prog_17_method_80_code
def yX4_number : MethodName := ⟨RX4, "number", "()I"⟩
def dkwX4_number_1 : List UInt8 := [184, 0, 71, 153, 0, 15, 16, 10, 27, 104, 42, 182, 0, 252, 96, 167, 0, 4, 27, 172]
abbrev dktX4_number_1 : List UInt8 := dkwX4_number_1 ++ []
def dkwX4_number_0 : List UInt8 := [42, 182, 0, 252, 60, 42, 180, 0, 241, 154, 0, 32, 42, 182, 0, 245, 133, 20, 0, 248, 20, 0, 250]
abbrev dktX4_number_0 : List UInt8 := dkwX4_number_0 ++ dktX4_number_1
theorem dksX4_number_0 : cX4_number.data.toList.drop 0 = dktX4_number_0 := by decide +kernel
theorem dksX4_number_1 : cX4_number.data.toList.drop 23 = dktX4_number_1 := dk_seg dksX4_number_0 23 rfl rfl
theorem dX4_number_0 : decode cX4_number 0 = .ok (.aload_n 0, 1) := dk_42 (dk_at dksX4_number_0 0 rfl rfl)
theorem dX4_number_1 : decode cX4_number 1 = .ok (.invokevirtual 252, 3) := dk_182 0 252 (dk_at dksX4_number_0 1 rfl rfl)
theorem dX4_number_4 : decode cX4_number 4 = .ok (.istore_n 1, 1) := dk_60 (dk_at dksX4_number_0 4 rfl rfl)
theorem dX4_number_5 : decode cX4_number 5 = .ok (.aload_n 0, 1) := dk_42 (dk_at dksX4_number_0 5 rfl rfl)
theorem dX4_number_6 : decode cX4_number 6 = .ok (.getfield 241, 3) := dk_180 0 241 (dk_at dksX4_number_0 6 rfl rfl)
theorem dX4_number_9 : decode cX4_number 9 = .ok (.ifCond .ne 32, 3) := dk_154 0 32 (dk_at dksX4_number_0 9 rfl rfl)
theorem dX4_number_12 : decode cX4_number 12 = .ok (.aload_n 0, 1) := dk_42 (dk_at dksX4_number_0 12 rfl rfl)
theorem dX4_number_13 : decode cX4_number 13 = .ok (.invokevirtual 245, 3) := dk_182 0 245 (dk_at dksX4_number_0 13 rfl rfl)
theorem dX4_number_16 : decode cX4_number 16 = .ok (.i2l, 1) := dk_133 (dk_at dksX4_number_0 16 rfl rfl)
theorem dX4_number_17 : decode cX4_number 17 = .ok (.ldc2_w 248, 3) := dk_20 0 248 (dk_at dksX4_number_0 17 rfl rfl)
theorem dX4_number_20 : decode cX4_number 20 = .ok (.ldc2_w 250, 3) := dk_20 0 250 (dk_at dksX4_number_0 20 rfl rfl)
theorem dX4_number_23 : decode cX4_number 23 = .ok (.invokestatic 71, 3) := dk_184 0 71 (dk_at dksX4_number_1 0 rfl rfl)
theorem dX4_number_26 : decode cX4_number 26 = .ok (.ifCond .eq 15, 3) := dk_153 0 15 (dk_at dksX4_number_1 3 rfl rfl)
theorem dX4_number_29 : decode cX4_number 29 = .ok (.bipush 10, 2) := dk_16 10 (dk_at dksX4_number_1 6 rfl rfl)
theorem dX4_number_31 : decode cX4_number 31 = .ok (.iload_n 1, 1) := dk_27 (dk_at dksX4_number_1 8 rfl rfl)
theorem dX4_number_32 : decode cX4_number 32 = .ok (.imul, 1) := dk_104 (dk_at dksX4_number_1 9 rfl rfl)
theorem dX4_number_33 : decode cX4_number 33 = .ok (.aload_n 0, 1) := dk_42 (dk_at dksX4_number_1 10 rfl rfl)
theorem dX4_number_34 : decode cX4_number 34 = .ok (.invokevirtual 252, 3) := dk_182 0 252 (dk_at dksX4_number_1 11 rfl rfl)
theorem dX4_number_37 : decode cX4_number 37 = .ok (.iadd, 1) := dk_96 (dk_at dksX4_number_1 14 rfl rfl)
theorem dX4_number_38 : decode cX4_number 38 = .ok (.goto 4, 3) := dk_167 0 4 (dk_at dksX4_number_1 15 rfl rfl)
theorem dX4_number_41 : decode cX4_number 41 = .ok (.iload_n 1, 1) := dk_27 (dk_at dksX4_number_1 18 rfl rfl)
theorem dX4_number_42 : decode cX4_number 42 = .ok (.ireturn, 1) := dk_172 (dk_at dksX4_number_1 19 rfl rfl)
abbrev cX4_digit : ByteArray := prog_17_method_79_code
def yX4_digit : MethodName := ⟨RX4, "digit", "()I"⟩
def dkwX4_digit_3 : List UInt8 := [96, 181, 0, 235, 27, 172]
abbrev dktX4_digit_3 : List UInt8 := dkwX4_digit_3 ++ []
def dkwX4_digit_2 : List UInt8 := [182, 0, 245, 16, 48, 100, 60, 42, 89, 180, 0, 235, 42, 180, 0, 241, 153, 0, 7, 3, 167, 0, 4, 4]
abbrev dktX4_digit_2 : List UInt8 := dkwX4_digit_2 ++ dktX4_digit_3
def dkwX4_digit_1 : List UInt8 := [154, 0, 7, 4, 167, 0, 4, 3, 181, 0, 241, 42, 180, 0, 241, 153, 0, 7, 3, 167, 0, 10, 42]
abbrev dktX4_digit_1 : List UInt8 := dkwX4_digit_1 ++ dktX4_digit_2
def dkwX4_digit_0 : List UInt8 := [42, 42, 180, 0, 241, 154, 0, 20, 42, 182, 0, 245, 133, 20, 0, 248, 20, 0, 250, 184, 0, 71]
abbrev dktX4_digit_0 : List UInt8 := dkwX4_digit_0 ++ dktX4_digit_1
theorem dksX4_digit_0 : cX4_digit.data.toList.drop 0 = dktX4_digit_0 := by decide +kernel
theorem dksX4_digit_1 : cX4_digit.data.toList.drop 22 = dktX4_digit_1 := dk_seg dksX4_digit_0 22 rfl rfl
theorem dksX4_digit_2 : cX4_digit.data.toList.drop 45 = dktX4_digit_2 := dk_seg dksX4_digit_1 23 rfl rfl
theorem dksX4_digit_3 : cX4_digit.data.toList.drop 69 = dktX4_digit_3 := dk_seg dksX4_digit_2 24 rfl rfl
theorem dX4_digit_0 : decode cX4_digit 0 = .ok (.aload_n 0, 1) := dk_42 (dk_at dksX4_digit_0 0 rfl rfl)
theorem dX4_digit_1 : decode cX4_digit 1 = .ok (.aload_n 0, 1) := dk_42 (dk_at dksX4_digit_0 1 rfl rfl)
theorem dX4_digit_2 : decode cX4_digit 2 = .ok (.getfield 241, 3) := dk_180 0 241 (dk_at dksX4_digit_0 2 rfl rfl)
theorem dX4_digit_5 : decode cX4_digit 5 = .ok (.ifCond .ne 20, 3) := dk_154 0 20 (dk_at dksX4_digit_0 5 rfl rfl)
theorem dX4_digit_8 : decode cX4_digit 8 = .ok (.aload_n 0, 1) := dk_42 (dk_at dksX4_digit_0 8 rfl rfl)
theorem dX4_digit_9 : decode cX4_digit 9 = .ok (.invokevirtual 245, 3) := dk_182 0 245 (dk_at dksX4_digit_0 9 rfl rfl)
theorem dX4_digit_12 : decode cX4_digit 12 = .ok (.i2l, 1) := dk_133 (dk_at dksX4_digit_0 12 rfl rfl)
theorem dX4_digit_13 : decode cX4_digit 13 = .ok (.ldc2_w 248, 3) := dk_20 0 248 (dk_at dksX4_digit_0 13 rfl rfl)
theorem dX4_digit_16 : decode cX4_digit 16 = .ok (.ldc2_w 250, 3) := dk_20 0 250 (dk_at dksX4_digit_0 16 rfl rfl)
theorem dX4_digit_19 : decode cX4_digit 19 = .ok (.invokestatic 71, 3) := dk_184 0 71 (dk_at dksX4_digit_0 19 rfl rfl)
theorem dX4_digit_22 : decode cX4_digit 22 = .ok (.ifCond .ne 7, 3) := dk_154 0 7 (dk_at dksX4_digit_1 0 rfl rfl)
theorem dX4_digit_25 : decode cX4_digit 25 = .ok (.iconst 1, 1) := dk_4 (dk_at dksX4_digit_1 3 rfl rfl)
theorem dX4_digit_26 : decode cX4_digit 26 = .ok (.goto 4, 3) := dk_167 0 4 (dk_at dksX4_digit_1 4 rfl rfl)
theorem dX4_digit_29 : decode cX4_digit 29 = .ok (.iconst 0, 1) := dk_3 (dk_at dksX4_digit_1 7 rfl rfl)
theorem dX4_digit_30 : decode cX4_digit 30 = .ok (.putfield 241, 3) := dk_181 0 241 (dk_at dksX4_digit_1 8 rfl rfl)
theorem dX4_digit_33 : decode cX4_digit 33 = .ok (.aload_n 0, 1) := dk_42 (dk_at dksX4_digit_1 11 rfl rfl)
theorem dX4_digit_34 : decode cX4_digit 34 = .ok (.getfield 241, 3) := dk_180 0 241 (dk_at dksX4_digit_1 12 rfl rfl)
theorem dX4_digit_37 : decode cX4_digit 37 = .ok (.ifCond .eq 7, 3) := dk_153 0 7 (dk_at dksX4_digit_1 15 rfl rfl)
theorem dX4_digit_40 : decode cX4_digit 40 = .ok (.iconst 0, 1) := dk_3 (dk_at dksX4_digit_1 18 rfl rfl)
theorem dX4_digit_41 : decode cX4_digit 41 = .ok (.goto 10, 3) := dk_167 0 10 (dk_at dksX4_digit_1 19 rfl rfl)
theorem dX4_digit_44 : decode cX4_digit 44 = .ok (.aload_n 0, 1) := dk_42 (dk_at dksX4_digit_1 22 rfl rfl)
theorem dX4_digit_45 : decode cX4_digit 45 = .ok (.invokevirtual 245, 3) := dk_182 0 245 (dk_at dksX4_digit_2 0 rfl rfl)
theorem dX4_digit_48 : decode cX4_digit 48 = .ok (.bipush 48, 2) := dk_16 48 (dk_at dksX4_digit_2 3 rfl rfl)
theorem dX4_digit_50 : decode cX4_digit 50 = .ok (.isub, 1) := dk_100 (dk_at dksX4_digit_2 5 rfl rfl)
theorem dX4_digit_51 : decode cX4_digit 51 = .ok (.istore_n 1, 1) := dk_60 (dk_at dksX4_digit_2 6 rfl rfl)
theorem dX4_digit_52 : decode cX4_digit 52 = .ok (.aload_n 0, 1) := dk_42 (dk_at dksX4_digit_2 7 rfl rfl)
theorem dX4_digit_53 : decode cX4_digit 53 = .ok (.dup, 1) := dk_89 (dk_at dksX4_digit_2 8 rfl rfl)
theorem dX4_digit_54 : decode cX4_digit 54 = .ok (.getfield 235, 3) := dk_180 0 235 (dk_at dksX4_digit_2 9 rfl rfl)
theorem dX4_digit_57 : decode cX4_digit 57 = .ok (.aload_n 0, 1) := dk_42 (dk_at dksX4_digit_2 12 rfl rfl)
theorem dX4_digit_58 : decode cX4_digit 58 = .ok (.getfield 241, 3) := dk_180 0 241 (dk_at dksX4_digit_2 13 rfl rfl)
theorem dX4_digit_61 : decode cX4_digit 61 = .ok (.ifCond .eq 7, 3) := dk_153 0 7 (dk_at dksX4_digit_2 16 rfl rfl)
theorem dX4_digit_64 : decode cX4_digit 64 = .ok (.iconst 0, 1) := dk_3 (dk_at dksX4_digit_2 19 rfl rfl)
theorem dX4_digit_65 : decode cX4_digit 65 = .ok (.goto 4, 3) := dk_167 0 4 (dk_at dksX4_digit_2 20 rfl rfl)
theorem dX4_digit_68 : decode cX4_digit 68 = .ok (.iconst 1, 1) := dk_4 (dk_at dksX4_digit_2 23 rfl rfl)
theorem dX4_digit_69 : decode cX4_digit 69 = .ok (.iadd, 1) := dk_96 (dk_at dksX4_digit_3 0 rfl rfl)
theorem dX4_digit_70 : decode cX4_digit 70 = .ok (.putfield 235, 3) := dk_181 0 235 (dk_at dksX4_digit_3 1 rfl rfl)
theorem dX4_digit_73 : decode cX4_digit 73 = .ok (.iload_n 1, 1) := dk_27 (dk_at dksX4_digit_3 4 rfl rfl)
theorem dX4_digit_74 : decode cX4_digit 74 = .ok (.ireturn, 1) := dk_172 (dk_at dksX4_digit_3 5 rfl rfl)
abbrev cX4_does : ByteArray := prog_17_method_83_code
def yX4_does : MethodName := ⟨RX4, "does", "(I)I"⟩
def dkwX4_does_3 : List UInt8 := [182, 0, 175, 172, 42, 28, 29, 182, 0, 110, 172, 42, 28, 182, 0, 114, 172, 42, 28, 182, 0, 207, 172]
abbrev dktX4_does_3 : List UInt8 := dkwX4_does_3 ++ []
def dkwX4_does_2 : List UInt8 := [42, 28, 29, 182, 0, 147, 172, 42, 28, 182, 0, 150, 172, 42, 28, 29, 182, 0, 167, 172, 42, 28, 29]
abbrev dktX4_does_2 : List UInt8 := dkwX4_does_2 ++ dktX4_does_3
def dkwX4_does_1 : List UInt8 := [170, 0, 0, 0, 0, 0, 0, 80, 0, 0, 0, 0, 0, 0, 0, 5, 0, 0, 0, 40, 0, 0, 0, 47, 0, 0, 0, 53, 0, 0, 0, 60, 0, 0, 0, 67, 0, 0, 0, 74]
abbrev dktX4_does_1 : List UInt8 := dkwX4_does_1 ++ dktX4_does_2
def dkwX4_does_0 : List UInt8 := [42, 180, 0, 51, 27, 4, 96, 46, 61, 42, 180, 0, 51, 27, 5, 96, 46, 62, 42, 180, 0, 51, 27, 46]
abbrev dktX4_does_0 : List UInt8 := dkwX4_does_0 ++ dktX4_does_1
theorem dksX4_does_0 : cX4_does.data.toList.drop 0 = dktX4_does_0 := by decide +kernel
theorem dksX4_does_1 : cX4_does.data.toList.drop 24 = dktX4_does_1 := dk_seg dksX4_does_0 24 rfl rfl
theorem dksX4_does_2 : cX4_does.data.toList.drop 64 = dktX4_does_2 := dk_seg dksX4_does_1 40 rfl rfl
theorem dksX4_does_3 : cX4_does.data.toList.drop 87 = dktX4_does_3 := dk_seg dksX4_does_2 23 rfl rfl
theorem dX4_does_0 : decode cX4_does 0 = .ok (.aload_n 0, 1) := dk_42 (dk_at dksX4_does_0 0 rfl rfl)
theorem dX4_does_1 : decode cX4_does 1 = .ok (.getfield 51, 3) := dk_180 0 51 (dk_at dksX4_does_0 1 rfl rfl)
theorem dX4_does_4 : decode cX4_does 4 = .ok (.iload_n 1, 1) := dk_27 (dk_at dksX4_does_0 4 rfl rfl)
theorem dX4_does_5 : decode cX4_does 5 = .ok (.iconst 1, 1) := dk_4 (dk_at dksX4_does_0 5 rfl rfl)
theorem dX4_does_6 : decode cX4_does 6 = .ok (.iadd, 1) := dk_96 (dk_at dksX4_does_0 6 rfl rfl)
theorem dX4_does_7 : decode cX4_does 7 = .ok (.iaload, 1) := dk_46 (dk_at dksX4_does_0 7 rfl rfl)
theorem dX4_does_8 : decode cX4_does 8 = .ok (.istore_n 2, 1) := dk_61 (dk_at dksX4_does_0 8 rfl rfl)
theorem dX4_does_9 : decode cX4_does 9 = .ok (.aload_n 0, 1) := dk_42 (dk_at dksX4_does_0 9 rfl rfl)
theorem dX4_does_10 : decode cX4_does 10 = .ok (.getfield 51, 3) := dk_180 0 51 (dk_at dksX4_does_0 10 rfl rfl)
theorem dX4_does_13 : decode cX4_does 13 = .ok (.iload_n 1, 1) := dk_27 (dk_at dksX4_does_0 13 rfl rfl)
theorem dX4_does_14 : decode cX4_does 14 = .ok (.iconst 2, 1) := dk_5 (dk_at dksX4_does_0 14 rfl rfl)
theorem dX4_does_15 : decode cX4_does 15 = .ok (.iadd, 1) := dk_96 (dk_at dksX4_does_0 15 rfl rfl)
theorem dX4_does_16 : decode cX4_does 16 = .ok (.iaload, 1) := dk_46 (dk_at dksX4_does_0 16 rfl rfl)
theorem dX4_does_17 : decode cX4_does 17 = .ok (.istore_n 3, 1) := dk_62 (dk_at dksX4_does_0 17 rfl rfl)
theorem dX4_does_18 : decode cX4_does 18 = .ok (.aload_n 0, 1) := dk_42 (dk_at dksX4_does_0 18 rfl rfl)
theorem dX4_does_19 : decode cX4_does 19 = .ok (.getfield 51, 3) := dk_180 0 51 (dk_at dksX4_does_0 19 rfl rfl)
theorem dX4_does_22 : decode cX4_does 22 = .ok (.iload_n 1, 1) := dk_27 (dk_at dksX4_does_0 22 rfl rfl)
theorem dX4_does_23 : decode cX4_does 23 = .ok (.iaload, 1) := dk_46 (dk_at dksX4_does_0 23 rfl rfl)
theorem dX4_does_24 : decode cX4_does 24 = .ok (.tableswitch 80 0 5 #[40, 47, 53, 60, 67, 74], 40) := by decide +kernel
theorem dX4_does_64 : decode cX4_does 64 = .ok (.aload_n 0, 1) := dk_42 (dk_at dksX4_does_2 0 rfl rfl)
theorem dX4_does_65 : decode cX4_does 65 = .ok (.iload_n 2, 1) := dk_28 (dk_at dksX4_does_2 1 rfl rfl)
theorem dX4_does_66 : decode cX4_does 66 = .ok (.iload_n 3, 1) := dk_29 (dk_at dksX4_does_2 2 rfl rfl)
theorem dX4_does_67 : decode cX4_does 67 = .ok (.invokevirtual 147, 3) := dk_182 0 147 (dk_at dksX4_does_2 3 rfl rfl)
theorem dX4_does_70 : decode cX4_does 70 = .ok (.ireturn, 1) := dk_172 (dk_at dksX4_does_2 6 rfl rfl)
theorem dX4_does_71 : decode cX4_does 71 = .ok (.aload_n 0, 1) := dk_42 (dk_at dksX4_does_2 7 rfl rfl)
theorem dX4_does_72 : decode cX4_does 72 = .ok (.iload_n 2, 1) := dk_28 (dk_at dksX4_does_2 8 rfl rfl)
theorem dX4_does_73 : decode cX4_does 73 = .ok (.invokevirtual 150, 3) := dk_182 0 150 (dk_at dksX4_does_2 9 rfl rfl)
theorem dX4_does_76 : decode cX4_does 76 = .ok (.ireturn, 1) := dk_172 (dk_at dksX4_does_2 12 rfl rfl)
theorem dX4_does_77 : decode cX4_does 77 = .ok (.aload_n 0, 1) := dk_42 (dk_at dksX4_does_2 13 rfl rfl)
theorem dX4_does_78 : decode cX4_does 78 = .ok (.iload_n 2, 1) := dk_28 (dk_at dksX4_does_2 14 rfl rfl)
theorem dX4_does_79 : decode cX4_does 79 = .ok (.iload_n 3, 1) := dk_29 (dk_at dksX4_does_2 15 rfl rfl)
theorem dX4_does_80 : decode cX4_does 80 = .ok (.invokevirtual 167, 3) := dk_182 0 167 (dk_at dksX4_does_2 16 rfl rfl)
theorem dX4_does_83 : decode cX4_does 83 = .ok (.ireturn, 1) := dk_172 (dk_at dksX4_does_2 19 rfl rfl)
theorem dX4_does_84 : decode cX4_does 84 = .ok (.aload_n 0, 1) := dk_42 (dk_at dksX4_does_2 20 rfl rfl)
theorem dX4_does_85 : decode cX4_does 85 = .ok (.iload_n 2, 1) := dk_28 (dk_at dksX4_does_2 21 rfl rfl)
theorem dX4_does_86 : decode cX4_does 86 = .ok (.iload_n 3, 1) := dk_29 (dk_at dksX4_does_2 22 rfl rfl)
theorem dX4_does_87 : decode cX4_does 87 = .ok (.invokevirtual 175, 3) := dk_182 0 175 (dk_at dksX4_does_3 0 rfl rfl)
theorem dX4_does_90 : decode cX4_does 90 = .ok (.ireturn, 1) := dk_172 (dk_at dksX4_does_3 3 rfl rfl)
theorem dX4_does_91 : decode cX4_does 91 = .ok (.aload_n 0, 1) := dk_42 (dk_at dksX4_does_3 4 rfl rfl)
theorem dX4_does_92 : decode cX4_does 92 = .ok (.iload_n 2, 1) := dk_28 (dk_at dksX4_does_3 5 rfl rfl)
theorem dX4_does_93 : decode cX4_does 93 = .ok (.iload_n 3, 1) := dk_29 (dk_at dksX4_does_3 6 rfl rfl)
theorem dX4_does_94 : decode cX4_does 94 = .ok (.invokevirtual 110, 3) := dk_182 0 110 (dk_at dksX4_does_3 7 rfl rfl)
theorem dX4_does_97 : decode cX4_does 97 = .ok (.ireturn, 1) := dk_172 (dk_at dksX4_does_3 10 rfl rfl)
theorem dX4_does_98 : decode cX4_does 98 = .ok (.aload_n 0, 1) := dk_42 (dk_at dksX4_does_3 11 rfl rfl)
theorem dX4_does_99 : decode cX4_does 99 = .ok (.iload_n 2, 1) := dk_28 (dk_at dksX4_does_3 12 rfl rfl)
theorem dX4_does_100 : decode cX4_does 100 = .ok (.invokevirtual 114, 3) := dk_182 0 114 (dk_at dksX4_does_3 13 rfl rfl)
theorem dX4_does_103 : decode cX4_does 103 = .ok (.ireturn, 1) := dk_172 (dk_at dksX4_does_3 16 rfl rfl)
theorem dX4_does_104 : decode cX4_does 104 = .ok (.aload_n 0, 1) := dk_42 (dk_at dksX4_does_3 17 rfl rfl)
theorem dX4_does_105 : decode cX4_does 105 = .ok (.iload_n 2, 1) := dk_28 (dk_at dksX4_does_3 18 rfl rfl)
theorem dX4_does_106 : decode cX4_does 106 = .ok (.invokevirtual 207, 3) := dk_182 0 207 (dk_at dksX4_does_3 19 rfl rfl)
theorem dX4_does_109 : decode cX4_does 109 = .ok (.ireturn, 1) := dk_172 (dk_at dksX4_does_3 22 rfl rfl)
abbrev cX4_refusedAt : ByteArray := prog_17_method_84_code
def yX4_refusedAt : MethodName := ⟨RX4, "refusedAt", "(I)I"⟩
def dkwX4_refusedAt_1 : List UInt8 := [167, 0, 4, 5, 172]
abbrev dktX4_refusedAt_1 : List UInt8 := dkwX4_refusedAt_1 ++ []
def dkwX4_refusedAt_0 : List UInt8 := [26, 5, 160, 0, 7, 6, 167, 0, 20, 26, 6, 159, 0, 9, 26, 16, 6, 160, 0, 8, 16, 9]
abbrev dktX4_refusedAt_0 : List UInt8 := dkwX4_refusedAt_0 ++ dktX4_refusedAt_1
theorem dksX4_refusedAt_0 : cX4_refusedAt.data.toList.drop 0 = dktX4_refusedAt_0 := by decide +kernel
theorem dksX4_refusedAt_1 : cX4_refusedAt.data.toList.drop 22 = dktX4_refusedAt_1 := dk_seg dksX4_refusedAt_0 22 rfl rfl
theorem dX4_refusedAt_0 : decode cX4_refusedAt 0 = .ok (.iload_n 0, 1) := dk_26 (dk_at dksX4_refusedAt_0 0 rfl rfl)
theorem dX4_refusedAt_1 : decode cX4_refusedAt 1 = .ok (.iconst 2, 1) := dk_5 (dk_at dksX4_refusedAt_0 1 rfl rfl)
theorem dX4_refusedAt_2 : decode cX4_refusedAt 2 = .ok (.if_icmp .ne 7, 3) := dk_160 0 7 (dk_at dksX4_refusedAt_0 2 rfl rfl)
theorem dX4_refusedAt_5 : decode cX4_refusedAt 5 = .ok (.iconst 3, 1) := dk_6 (dk_at dksX4_refusedAt_0 5 rfl rfl)
theorem dX4_refusedAt_6 : decode cX4_refusedAt 6 = .ok (.goto 20, 3) := dk_167 0 20 (dk_at dksX4_refusedAt_0 6 rfl rfl)
theorem dX4_refusedAt_9 : decode cX4_refusedAt 9 = .ok (.iload_n 0, 1) := dk_26 (dk_at dksX4_refusedAt_0 9 rfl rfl)
theorem dX4_refusedAt_10 : decode cX4_refusedAt 10 = .ok (.iconst 3, 1) := dk_6 (dk_at dksX4_refusedAt_0 10 rfl rfl)
theorem dX4_refusedAt_11 : decode cX4_refusedAt 11 = .ok (.if_icmp .eq 9, 3) := dk_159 0 9 (dk_at dksX4_refusedAt_0 11 rfl rfl)
theorem dX4_refusedAt_14 : decode cX4_refusedAt 14 = .ok (.iload_n 0, 1) := dk_26 (dk_at dksX4_refusedAt_0 14 rfl rfl)
theorem dX4_refusedAt_15 : decode cX4_refusedAt 15 = .ok (.bipush 6, 2) := dk_16 6 (dk_at dksX4_refusedAt_0 15 rfl rfl)
theorem dX4_refusedAt_17 : decode cX4_refusedAt 17 = .ok (.if_icmp .ne 8, 3) := dk_160 0 8 (dk_at dksX4_refusedAt_0 17 rfl rfl)
theorem dX4_refusedAt_20 : decode cX4_refusedAt 20 = .ok (.bipush 9, 2) := dk_16 9 (dk_at dksX4_refusedAt_0 20 rfl rfl)
theorem dX4_refusedAt_22 : decode cX4_refusedAt 22 = .ok (.goto 4, 3) := dk_167 0 4 (dk_at dksX4_refusedAt_1 0 rfl rfl)
theorem dX4_refusedAt_25 : decode cX4_refusedAt 25 = .ok (.iconst 2, 1) := dk_5 (dk_at dksX4_refusedAt_1 3 rfl rfl)
theorem dX4_refusedAt_26 : decode cX4_refusedAt 26 = .ok (.ireturn, 1) := dk_172 (dk_at dksX4_refusedAt_1 4 rfl rfl)
abbrev cX4_refusesAll : ByteArray := prog_17_method_85_code
def yX4_refusesAll : MethodName := ⟨RX4, "refusesAll", "(IZ)I"⟩
def dkwX4_refusesAll_3 : List UInt8 := [42, 89, 180, 0, 57, 4, 96, 181, 0, 57, 42, 5, 182, 0, 60, 172]
abbrev dktX4_refusesAll_3 : List UInt8 := dkwX4_refusesAll_3 ++ []
def dkwX4_refusesAll_2 : List UInt8 := [100, 46, 79, 132, 3, 255, 167, 255, 221, 42, 180, 0, 25, 3, 16, 15, 79, 42, 180, 0, 28, 3, 27, 79]
abbrev dktX4_refusesAll_2 : List UInt8 := dkwX4_refusesAll_2 ++ dktX4_refusesAll_3
def dkwX4_refusesAll_1 : List UInt8 := [180, 0, 25, 29, 42, 180, 0, 25, 29, 4, 100, 46, 79, 42, 180, 0, 28, 29, 42, 180, 0, 28, 29, 4]
abbrev dktX4_refusesAll_1 : List UInt8 := dkwX4_refusesAll_1 ++ dktX4_refusesAll_2
def dkwX4_refusesAll_0 : List UInt8 := [28, 154, 0, 12, 42, 5, 16, 17, 3, 182, 0, 64, 87, 42, 180, 0, 57, 62, 29, 158, 0, 37, 42]
abbrev dktX4_refusesAll_0 : List UInt8 := dkwX4_refusesAll_0 ++ dktX4_refusesAll_1
theorem dksX4_refusesAll_0 : cX4_refusesAll.data.toList.drop 0 = dktX4_refusesAll_0 := by decide +kernel
theorem dksX4_refusesAll_1 : cX4_refusesAll.data.toList.drop 23 = dktX4_refusesAll_1 := dk_seg dksX4_refusesAll_0 23 rfl rfl
theorem dksX4_refusesAll_2 : cX4_refusesAll.data.toList.drop 47 = dktX4_refusesAll_2 := dk_seg dksX4_refusesAll_1 24 rfl rfl
theorem dksX4_refusesAll_3 : cX4_refusesAll.data.toList.drop 71 = dktX4_refusesAll_3 := dk_seg dksX4_refusesAll_2 24 rfl rfl
theorem dX4_refusesAll_0 : decode cX4_refusesAll 0 = .ok (.iload_n 2, 1) := dk_28 (dk_at dksX4_refusesAll_0 0 rfl rfl)
theorem dX4_refusesAll_1 : decode cX4_refusesAll 1 = .ok (.ifCond .ne 12, 3) := dk_154 0 12 (dk_at dksX4_refusesAll_0 1 rfl rfl)
theorem dX4_refusesAll_4 : decode cX4_refusesAll 4 = .ok (.aload_n 0, 1) := dk_42 (dk_at dksX4_refusesAll_0 4 rfl rfl)
theorem dX4_refusesAll_5 : decode cX4_refusesAll 5 = .ok (.iconst 2, 1) := dk_5 (dk_at dksX4_refusesAll_0 5 rfl rfl)
theorem dX4_refusesAll_6 : decode cX4_refusesAll 6 = .ok (.bipush 17, 2) := dk_16 17 (dk_at dksX4_refusesAll_0 6 rfl rfl)
theorem dX4_refusesAll_8 : decode cX4_refusesAll 8 = .ok (.iconst 0, 1) := dk_3 (dk_at dksX4_refusesAll_0 8 rfl rfl)
theorem dX4_refusesAll_9 : decode cX4_refusesAll 9 = .ok (.invokevirtual 64, 3) := dk_182 0 64 (dk_at dksX4_refusesAll_0 9 rfl rfl)
theorem dX4_refusesAll_12 : decode cX4_refusesAll 12 = .ok (.pop, 1) := dk_87 (dk_at dksX4_refusesAll_0 12 rfl rfl)
theorem dX4_refusesAll_13 : decode cX4_refusesAll 13 = .ok (.aload_n 0, 1) := dk_42 (dk_at dksX4_refusesAll_0 13 rfl rfl)
theorem dX4_refusesAll_14 : decode cX4_refusesAll 14 = .ok (.getfield 57, 3) := dk_180 0 57 (dk_at dksX4_refusesAll_0 14 rfl rfl)
theorem dX4_refusesAll_17 : decode cX4_refusesAll 17 = .ok (.istore_n 3, 1) := dk_62 (dk_at dksX4_refusesAll_0 17 rfl rfl)
theorem dX4_refusesAll_18 : decode cX4_refusesAll 18 = .ok (.iload_n 3, 1) := dk_29 (dk_at dksX4_refusesAll_0 18 rfl rfl)
theorem dX4_refusesAll_19 : decode cX4_refusesAll 19 = .ok (.ifCond .le 37, 3) := dk_158 0 37 (dk_at dksX4_refusesAll_0 19 rfl rfl)
theorem dX4_refusesAll_22 : decode cX4_refusesAll 22 = .ok (.aload_n 0, 1) := dk_42 (dk_at dksX4_refusesAll_0 22 rfl rfl)
theorem dX4_refusesAll_23 : decode cX4_refusesAll 23 = .ok (.getfield 25, 3) := dk_180 0 25 (dk_at dksX4_refusesAll_1 0 rfl rfl)
theorem dX4_refusesAll_26 : decode cX4_refusesAll 26 = .ok (.iload_n 3, 1) := dk_29 (dk_at dksX4_refusesAll_1 3 rfl rfl)
theorem dX4_refusesAll_27 : decode cX4_refusesAll 27 = .ok (.aload_n 0, 1) := dk_42 (dk_at dksX4_refusesAll_1 4 rfl rfl)
theorem dX4_refusesAll_28 : decode cX4_refusesAll 28 = .ok (.getfield 25, 3) := dk_180 0 25 (dk_at dksX4_refusesAll_1 5 rfl rfl)
theorem dX4_refusesAll_31 : decode cX4_refusesAll 31 = .ok (.iload_n 3, 1) := dk_29 (dk_at dksX4_refusesAll_1 8 rfl rfl)
theorem dX4_refusesAll_32 : decode cX4_refusesAll 32 = .ok (.iconst 1, 1) := dk_4 (dk_at dksX4_refusesAll_1 9 rfl rfl)
theorem dX4_refusesAll_33 : decode cX4_refusesAll 33 = .ok (.isub, 1) := dk_100 (dk_at dksX4_refusesAll_1 10 rfl rfl)
theorem dX4_refusesAll_34 : decode cX4_refusesAll 34 = .ok (.iaload, 1) := dk_46 (dk_at dksX4_refusesAll_1 11 rfl rfl)
theorem dX4_refusesAll_35 : decode cX4_refusesAll 35 = .ok (.iastore, 1) := dk_79 (dk_at dksX4_refusesAll_1 12 rfl rfl)
theorem dX4_refusesAll_36 : decode cX4_refusesAll 36 = .ok (.aload_n 0, 1) := dk_42 (dk_at dksX4_refusesAll_1 13 rfl rfl)
theorem dX4_refusesAll_37 : decode cX4_refusesAll 37 = .ok (.getfield 28, 3) := dk_180 0 28 (dk_at dksX4_refusesAll_1 14 rfl rfl)
theorem dX4_refusesAll_40 : decode cX4_refusesAll 40 = .ok (.iload_n 3, 1) := dk_29 (dk_at dksX4_refusesAll_1 17 rfl rfl)
theorem dX4_refusesAll_41 : decode cX4_refusesAll 41 = .ok (.aload_n 0, 1) := dk_42 (dk_at dksX4_refusesAll_1 18 rfl rfl)
theorem dX4_refusesAll_42 : decode cX4_refusesAll 42 = .ok (.getfield 28, 3) := dk_180 0 28 (dk_at dksX4_refusesAll_1 19 rfl rfl)
theorem dX4_refusesAll_45 : decode cX4_refusesAll 45 = .ok (.iload_n 3, 1) := dk_29 (dk_at dksX4_refusesAll_1 22 rfl rfl)
theorem dX4_refusesAll_46 : decode cX4_refusesAll 46 = .ok (.iconst 1, 1) := dk_4 (dk_at dksX4_refusesAll_1 23 rfl rfl)
theorem dX4_refusesAll_47 : decode cX4_refusesAll 47 = .ok (.isub, 1) := dk_100 (dk_at dksX4_refusesAll_2 0 rfl rfl)
theorem dX4_refusesAll_48 : decode cX4_refusesAll 48 = .ok (.iaload, 1) := dk_46 (dk_at dksX4_refusesAll_2 1 rfl rfl)
theorem dX4_refusesAll_49 : decode cX4_refusesAll 49 = .ok (.iastore, 1) := dk_79 (dk_at dksX4_refusesAll_2 2 rfl rfl)
theorem dX4_refusesAll_50 : decode cX4_refusesAll 50 = .ok (.iinc 3 (-1), 3) := dk_132 3 255 (dk_at dksX4_refusesAll_2 3 rfl rfl)
theorem dX4_refusesAll_53 : decode cX4_refusesAll 53 = .ok (.goto (-35), 3) := dk_167 255 221 (dk_at dksX4_refusesAll_2 6 rfl rfl)
theorem dX4_refusesAll_56 : decode cX4_refusesAll 56 = .ok (.aload_n 0, 1) := dk_42 (dk_at dksX4_refusesAll_2 9 rfl rfl)
theorem dX4_refusesAll_57 : decode cX4_refusesAll 57 = .ok (.getfield 25, 3) := dk_180 0 25 (dk_at dksX4_refusesAll_2 10 rfl rfl)
theorem dX4_refusesAll_60 : decode cX4_refusesAll 60 = .ok (.iconst 0, 1) := dk_3 (dk_at dksX4_refusesAll_2 13 rfl rfl)
theorem dX4_refusesAll_61 : decode cX4_refusesAll 61 = .ok (.bipush 15, 2) := dk_16 15 (dk_at dksX4_refusesAll_2 14 rfl rfl)
theorem dX4_refusesAll_63 : decode cX4_refusesAll 63 = .ok (.iastore, 1) := dk_79 (dk_at dksX4_refusesAll_2 16 rfl rfl)
theorem dX4_refusesAll_64 : decode cX4_refusesAll 64 = .ok (.aload_n 0, 1) := dk_42 (dk_at dksX4_refusesAll_2 17 rfl rfl)
theorem dX4_refusesAll_65 : decode cX4_refusesAll 65 = .ok (.getfield 28, 3) := dk_180 0 28 (dk_at dksX4_refusesAll_2 18 rfl rfl)
theorem dX4_refusesAll_68 : decode cX4_refusesAll 68 = .ok (.iconst 0, 1) := dk_3 (dk_at dksX4_refusesAll_2 21 rfl rfl)
theorem dX4_refusesAll_69 : decode cX4_refusesAll 69 = .ok (.iload_n 1, 1) := dk_27 (dk_at dksX4_refusesAll_2 22 rfl rfl)
theorem dX4_refusesAll_70 : decode cX4_refusesAll 70 = .ok (.iastore, 1) := dk_79 (dk_at dksX4_refusesAll_2 23 rfl rfl)
theorem dX4_refusesAll_71 : decode cX4_refusesAll 71 = .ok (.aload_n 0, 1) := dk_42 (dk_at dksX4_refusesAll_3 0 rfl rfl)
theorem dX4_refusesAll_72 : decode cX4_refusesAll 72 = .ok (.dup, 1) := dk_89 (dk_at dksX4_refusesAll_3 1 rfl rfl)
theorem dX4_refusesAll_73 : decode cX4_refusesAll 73 = .ok (.getfield 57, 3) := dk_180 0 57 (dk_at dksX4_refusesAll_3 2 rfl rfl)
theorem dX4_refusesAll_76 : decode cX4_refusesAll 76 = .ok (.iconst 1, 1) := dk_4 (dk_at dksX4_refusesAll_3 5 rfl rfl)
theorem dX4_refusesAll_77 : decode cX4_refusesAll 77 = .ok (.iadd, 1) := dk_96 (dk_at dksX4_refusesAll_3 6 rfl rfl)
theorem dX4_refusesAll_78 : decode cX4_refusesAll 78 = .ok (.putfield 57, 3) := dk_181 0 57 (dk_at dksX4_refusesAll_3 7 rfl rfl)
theorem dX4_refusesAll_81 : decode cX4_refusesAll 81 = .ok (.aload_n 0, 1) := dk_42 (dk_at dksX4_refusesAll_3 10 rfl rfl)
theorem dX4_refusesAll_82 : decode cX4_refusesAll 82 = .ok (.iconst 2, 1) := dk_5 (dk_at dksX4_refusesAll_3 11 rfl rfl)
theorem dX4_refusesAll_83 : decode cX4_refusesAll 83 = .ok (.invokevirtual 60, 3) := dk_182 0 60 (dk_at dksX4_refusesAll_3 12 rfl rfl)
theorem dX4_refusesAll_86 : decode cX4_refusesAll 86 = .ok (.ireturn, 1) := dk_172 (dk_at dksX4_refusesAll_3 15 rfl rfl)
abbrev cX4_errorPosition : ByteArray := prog_17_method_87_code
def yX4_errorPosition : MethodName := ⟨RX4, "errorPosition", "()I"⟩
def dkwX4_errorPosition_1 : List UInt8 := [180, 0, 31, 172]
abbrev dktX4_errorPosition_1 : List UInt8 := dkwX4_errorPosition_1 ++ []
def dkwX4_errorPosition_0 : List UInt8 := [42, 3, 181, 0, 54, 42, 180, 0, 31, 2, 160, 0, 11, 42, 4, 182, 0, 60, 167, 0, 7, 42]
abbrev dktX4_errorPosition_0 : List UInt8 := dkwX4_errorPosition_0 ++ dktX4_errorPosition_1
theorem dksX4_errorPosition_0 : cX4_errorPosition.data.toList.drop 0 = dktX4_errorPosition_0 := by decide +kernel
theorem dksX4_errorPosition_1 : cX4_errorPosition.data.toList.drop 22 = dktX4_errorPosition_1 := dk_seg dksX4_errorPosition_0 22 rfl rfl
theorem dX4_errorPosition_0 : decode cX4_errorPosition 0 = .ok (.aload_n 0, 1) := dk_42 (dk_at dksX4_errorPosition_0 0 rfl rfl)
theorem dX4_errorPosition_1 : decode cX4_errorPosition 1 = .ok (.iconst 0, 1) := dk_3 (dk_at dksX4_errorPosition_0 1 rfl rfl)
theorem dX4_errorPosition_2 : decode cX4_errorPosition 2 = .ok (.putfield 54, 3) := dk_181 0 54 (dk_at dksX4_errorPosition_0 2 rfl rfl)
theorem dX4_errorPosition_5 : decode cX4_errorPosition 5 = .ok (.aload_n 0, 1) := dk_42 (dk_at dksX4_errorPosition_0 5 rfl rfl)
theorem dX4_errorPosition_6 : decode cX4_errorPosition 6 = .ok (.getfield 31, 3) := dk_180 0 31 (dk_at dksX4_errorPosition_0 6 rfl rfl)
theorem dX4_errorPosition_9 : decode cX4_errorPosition 9 = .ok (.iconst (-1), 1) := dk_2 (dk_at dksX4_errorPosition_0 9 rfl rfl)
theorem dX4_errorPosition_10 : decode cX4_errorPosition 10 = .ok (.if_icmp .ne 11, 3) := dk_160 0 11 (dk_at dksX4_errorPosition_0 10 rfl rfl)
theorem dX4_errorPosition_13 : decode cX4_errorPosition 13 = .ok (.aload_n 0, 1) := dk_42 (dk_at dksX4_errorPosition_0 13 rfl rfl)
theorem dX4_errorPosition_14 : decode cX4_errorPosition 14 = .ok (.iconst 1, 1) := dk_4 (dk_at dksX4_errorPosition_0 14 rfl rfl)
theorem dX4_errorPosition_15 : decode cX4_errorPosition 15 = .ok (.invokevirtual 60, 3) := dk_182 0 60 (dk_at dksX4_errorPosition_0 15 rfl rfl)
theorem dX4_errorPosition_18 : decode cX4_errorPosition 18 = .ok (.goto 7, 3) := dk_167 0 7 (dk_at dksX4_errorPosition_0 18 rfl rfl)
theorem dX4_errorPosition_21 : decode cX4_errorPosition 21 = .ok (.aload_n 0, 1) := dk_42 (dk_at dksX4_errorPosition_0 21 rfl rfl)
theorem dX4_errorPosition_22 : decode cX4_errorPosition 22 = .ok (.getfield 31, 3) := dk_180 0 31 (dk_at dksX4_errorPosition_1 0 rfl rfl)
theorem dX4_errorPosition_25 : decode cX4_errorPosition 25 = .ok (.ireturn, 1) := dk_172 (dk_at dksX4_errorPosition_1 3 rfl rfl)
abbrev cX4_reason : ByteArray := prog_17_method_88_code
def yX4_reason : MethodName := ⟨RX4, "reason", "(IZ)I"⟩
def dkwX4_reason_1 : List UInt8 := [182, 0, 60, 172, 28, 153, 0, 12, 42, 180, 0, 28, 27, 46, 167, 0, 9, 42, 180, 0, 25, 27, 46, 172]
abbrev dktX4_reason_1 : List UInt8 := dkwX4_reason_1 ++ []
def dkwX4_reason_0 : List UInt8 := [42, 3, 181, 0, 54, 27, 133, 9, 42, 180, 0, 57, 4, 100, 133, 184, 0, 71, 154, 0, 9, 42, 4]
abbrev dktX4_reason_0 : List UInt8 := dkwX4_reason_0 ++ dktX4_reason_1
theorem dksX4_reason_0 : cX4_reason.data.toList.drop 0 = dktX4_reason_0 := by decide +kernel
theorem dksX4_reason_1 : cX4_reason.data.toList.drop 23 = dktX4_reason_1 := dk_seg dksX4_reason_0 23 rfl rfl
theorem dX4_reason_0 : decode cX4_reason 0 = .ok (.aload_n 0, 1) := dk_42 (dk_at dksX4_reason_0 0 rfl rfl)
theorem dX4_reason_1 : decode cX4_reason 1 = .ok (.iconst 0, 1) := dk_3 (dk_at dksX4_reason_0 1 rfl rfl)
theorem dX4_reason_2 : decode cX4_reason 2 = .ok (.putfield 54, 3) := dk_181 0 54 (dk_at dksX4_reason_0 2 rfl rfl)
theorem dX4_reason_5 : decode cX4_reason 5 = .ok (.iload_n 1, 1) := dk_27 (dk_at dksX4_reason_0 5 rfl rfl)
theorem dX4_reason_6 : decode cX4_reason 6 = .ok (.i2l, 1) := dk_133 (dk_at dksX4_reason_0 6 rfl rfl)
theorem dX4_reason_7 : decode cX4_reason 7 = .ok (.lconst 0, 1) := dk_9 (dk_at dksX4_reason_0 7 rfl rfl)
theorem dX4_reason_8 : decode cX4_reason 8 = .ok (.aload_n 0, 1) := dk_42 (dk_at dksX4_reason_0 8 rfl rfl)
theorem dX4_reason_9 : decode cX4_reason 9 = .ok (.getfield 57, 3) := dk_180 0 57 (dk_at dksX4_reason_0 9 rfl rfl)
theorem dX4_reason_12 : decode cX4_reason 12 = .ok (.iconst 1, 1) := dk_4 (dk_at dksX4_reason_0 12 rfl rfl)
theorem dX4_reason_13 : decode cX4_reason 13 = .ok (.isub, 1) := dk_100 (dk_at dksX4_reason_0 13 rfl rfl)
theorem dX4_reason_14 : decode cX4_reason 14 = .ok (.i2l, 1) := dk_133 (dk_at dksX4_reason_0 14 rfl rfl)
theorem dX4_reason_15 : decode cX4_reason 15 = .ok (.invokestatic 71, 3) := dk_184 0 71 (dk_at dksX4_reason_0 15 rfl rfl)
theorem dX4_reason_18 : decode cX4_reason 18 = .ok (.ifCond .ne 9, 3) := dk_154 0 9 (dk_at dksX4_reason_0 18 rfl rfl)
theorem dX4_reason_21 : decode cX4_reason 21 = .ok (.aload_n 0, 1) := dk_42 (dk_at dksX4_reason_0 21 rfl rfl)
theorem dX4_reason_22 : decode cX4_reason 22 = .ok (.iconst 1, 1) := dk_4 (dk_at dksX4_reason_0 22 rfl rfl)
theorem dX4_reason_23 : decode cX4_reason 23 = .ok (.invokevirtual 60, 3) := dk_182 0 60 (dk_at dksX4_reason_1 0 rfl rfl)
theorem dX4_reason_26 : decode cX4_reason 26 = .ok (.ireturn, 1) := dk_172 (dk_at dksX4_reason_1 3 rfl rfl)
theorem dX4_reason_27 : decode cX4_reason 27 = .ok (.iload_n 2, 1) := dk_28 (dk_at dksX4_reason_1 4 rfl rfl)
theorem dX4_reason_28 : decode cX4_reason 28 = .ok (.ifCond .eq 12, 3) := dk_153 0 12 (dk_at dksX4_reason_1 5 rfl rfl)
theorem dX4_reason_31 : decode cX4_reason 31 = .ok (.aload_n 0, 1) := dk_42 (dk_at dksX4_reason_1 8 rfl rfl)
theorem dX4_reason_32 : decode cX4_reason 32 = .ok (.getfield 28, 3) := dk_180 0 28 (dk_at dksX4_reason_1 9 rfl rfl)
theorem dX4_reason_35 : decode cX4_reason 35 = .ok (.iload_n 1, 1) := dk_27 (dk_at dksX4_reason_1 12 rfl rfl)
theorem dX4_reason_36 : decode cX4_reason 36 = .ok (.iaload, 1) := dk_46 (dk_at dksX4_reason_1 13 rfl rfl)
theorem dX4_reason_37 : decode cX4_reason 37 = .ok (.goto 9, 3) := dk_167 0 9 (dk_at dksX4_reason_1 14 rfl rfl)
theorem dX4_reason_40 : decode cX4_reason 40 = .ok (.aload_n 0, 1) := dk_42 (dk_at dksX4_reason_1 17 rfl rfl)
theorem dX4_reason_41 : decode cX4_reason 41 = .ok (.getfield 25, 3) := dk_180 0 25 (dk_at dksX4_reason_1 18 rfl rfl)
theorem dX4_reason_44 : decode cX4_reason 44 = .ok (.iload_n 1, 1) := dk_27 (dk_at dksX4_reason_1 21 rfl rfl)
theorem dX4_reason_45 : decode cX4_reason 45 = .ok (.iaload, 1) := dk_46 (dk_at dksX4_reason_1 22 rfl rfl)
theorem dX4_reason_46 : decode cX4_reason 46 = .ok (.ireturn, 1) := dk_172 (dk_at dksX4_reason_1 23 rfl rfl)
abbrev cX4_undo : ByteArray := prog_17_method_89_code
def yX4_undo : MethodName := ⟨RX4, "undo", "()I"⟩
def dkwX4_undo_2 : List UInt8 := [17, 1, 50, 42, 180, 0, 68, 104, 27, 96, 46, 79, 132, 1, 1, 167, 255, 225, 42, 180, 0, 68, 172]
abbrev dktX4_undo_2 : List UInt8 := dkwX4_undo_2 ++ []
def dkwX4_undo_1 : List UInt8 := [100, 181, 0, 68, 3, 60, 27, 17, 1, 50, 162, 0, 30, 42, 180, 0, 9, 27, 42, 180, 0, 22]
abbrev dktX4_undo_1 : List UInt8 := dkwX4_undo_1 ++ dktX4_undo_2
def dkwX4_undo_0 : List UInt8 := [42, 3, 181, 0, 54, 42, 180, 0, 68, 154, 0, 9, 42, 4, 182, 0, 60, 172, 42, 89, 180, 0, 68, 4]
abbrev dktX4_undo_0 : List UInt8 := dkwX4_undo_0 ++ dktX4_undo_1
theorem dksX4_undo_0 : cX4_undo.data.toList.drop 0 = dktX4_undo_0 := by decide +kernel
theorem dksX4_undo_1 : cX4_undo.data.toList.drop 24 = dktX4_undo_1 := dk_seg dksX4_undo_0 24 rfl rfl
theorem dksX4_undo_2 : cX4_undo.data.toList.drop 46 = dktX4_undo_2 := dk_seg dksX4_undo_1 22 rfl rfl
theorem dX4_undo_0 : decode cX4_undo 0 = .ok (.aload_n 0, 1) := dk_42 (dk_at dksX4_undo_0 0 rfl rfl)
theorem dX4_undo_1 : decode cX4_undo 1 = .ok (.iconst 0, 1) := dk_3 (dk_at dksX4_undo_0 1 rfl rfl)
theorem dX4_undo_2 : decode cX4_undo 2 = .ok (.putfield 54, 3) := dk_181 0 54 (dk_at dksX4_undo_0 2 rfl rfl)
theorem dX4_undo_5 : decode cX4_undo 5 = .ok (.aload_n 0, 1) := dk_42 (dk_at dksX4_undo_0 5 rfl rfl)
theorem dX4_undo_6 : decode cX4_undo 6 = .ok (.getfield 68, 3) := dk_180 0 68 (dk_at dksX4_undo_0 6 rfl rfl)
theorem dX4_undo_9 : decode cX4_undo 9 = .ok (.ifCond .ne 9, 3) := dk_154 0 9 (dk_at dksX4_undo_0 9 rfl rfl)
theorem dX4_undo_12 : decode cX4_undo 12 = .ok (.aload_n 0, 1) := dk_42 (dk_at dksX4_undo_0 12 rfl rfl)
theorem dX4_undo_13 : decode cX4_undo 13 = .ok (.iconst 1, 1) := dk_4 (dk_at dksX4_undo_0 13 rfl rfl)
theorem dX4_undo_14 : decode cX4_undo 14 = .ok (.invokevirtual 60, 3) := dk_182 0 60 (dk_at dksX4_undo_0 14 rfl rfl)
theorem dX4_undo_17 : decode cX4_undo 17 = .ok (.ireturn, 1) := dk_172 (dk_at dksX4_undo_0 17 rfl rfl)
theorem dX4_undo_18 : decode cX4_undo 18 = .ok (.aload_n 0, 1) := dk_42 (dk_at dksX4_undo_0 18 rfl rfl)
theorem dX4_undo_19 : decode cX4_undo 19 = .ok (.dup, 1) := dk_89 (dk_at dksX4_undo_0 19 rfl rfl)
theorem dX4_undo_20 : decode cX4_undo 20 = .ok (.getfield 68, 3) := dk_180 0 68 (dk_at dksX4_undo_0 20 rfl rfl)
theorem dX4_undo_23 : decode cX4_undo 23 = .ok (.iconst 1, 1) := dk_4 (dk_at dksX4_undo_0 23 rfl rfl)
theorem dX4_undo_24 : decode cX4_undo 24 = .ok (.isub, 1) := dk_100 (dk_at dksX4_undo_1 0 rfl rfl)
theorem dX4_undo_25 : decode cX4_undo 25 = .ok (.putfield 68, 3) := dk_181 0 68 (dk_at dksX4_undo_1 1 rfl rfl)
theorem dX4_undo_28 : decode cX4_undo 28 = .ok (.iconst 0, 1) := dk_3 (dk_at dksX4_undo_1 4 rfl rfl)
theorem dX4_undo_29 : decode cX4_undo 29 = .ok (.istore_n 1, 1) := dk_60 (dk_at dksX4_undo_1 5 rfl rfl)
theorem dX4_undo_30 : decode cX4_undo 30 = .ok (.iload_n 1, 1) := dk_27 (dk_at dksX4_undo_1 6 rfl rfl)
theorem dX4_undo_31 : decode cX4_undo 31 = .ok (.sipush 306, 3) := dk_17 1 50 (dk_at dksX4_undo_1 7 rfl rfl)
theorem dX4_undo_34 : decode cX4_undo 34 = .ok (.if_icmp .ge 30, 3) := dk_162 0 30 (dk_at dksX4_undo_1 10 rfl rfl)
theorem dX4_undo_37 : decode cX4_undo 37 = .ok (.aload_n 0, 1) := dk_42 (dk_at dksX4_undo_1 13 rfl rfl)
theorem dX4_undo_38 : decode cX4_undo 38 = .ok (.getfield 9, 3) := dk_180 0 9 (dk_at dksX4_undo_1 14 rfl rfl)
theorem dX4_undo_41 : decode cX4_undo 41 = .ok (.iload_n 1, 1) := dk_27 (dk_at dksX4_undo_1 17 rfl rfl)
theorem dX4_undo_42 : decode cX4_undo 42 = .ok (.aload_n 0, 1) := dk_42 (dk_at dksX4_undo_1 18 rfl rfl)
theorem dX4_undo_43 : decode cX4_undo 43 = .ok (.getfield 22, 3) := dk_180 0 22 (dk_at dksX4_undo_1 19 rfl rfl)
theorem dX4_undo_46 : decode cX4_undo 46 = .ok (.sipush 306, 3) := dk_17 1 50 (dk_at dksX4_undo_2 0 rfl rfl)
theorem dX4_undo_49 : decode cX4_undo 49 = .ok (.aload_n 0, 1) := dk_42 (dk_at dksX4_undo_2 3 rfl rfl)
theorem dX4_undo_50 : decode cX4_undo 50 = .ok (.getfield 68, 3) := dk_180 0 68 (dk_at dksX4_undo_2 4 rfl rfl)
theorem dX4_undo_53 : decode cX4_undo 53 = .ok (.imul, 1) := dk_104 (dk_at dksX4_undo_2 7 rfl rfl)
theorem dX4_undo_54 : decode cX4_undo 54 = .ok (.iload_n 1, 1) := dk_27 (dk_at dksX4_undo_2 8 rfl rfl)
theorem dX4_undo_55 : decode cX4_undo 55 = .ok (.iadd, 1) := dk_96 (dk_at dksX4_undo_2 9 rfl rfl)
theorem dX4_undo_56 : decode cX4_undo 56 = .ok (.iaload, 1) := dk_46 (dk_at dksX4_undo_2 10 rfl rfl)
theorem dX4_undo_57 : decode cX4_undo 57 = .ok (.iastore, 1) := dk_79 (dk_at dksX4_undo_2 11 rfl rfl)
theorem dX4_undo_58 : decode cX4_undo 58 = .ok (.iinc 1 1, 3) := dk_132 1 1 (dk_at dksX4_undo_2 12 rfl rfl)
theorem dX4_undo_61 : decode cX4_undo 61 = .ok (.goto (-31), 3) := dk_167 255 225 (dk_at dksX4_undo_2 15 rfl rfl)
theorem dX4_undo_64 : decode cX4_undo 64 = .ok (.aload_n 0, 1) := dk_42 (dk_at dksX4_undo_2 18 rfl rfl)
theorem dX4_undo_65 : decode cX4_undo 65 = .ok (.getfield 68, 3) := dk_180 0 68 (dk_at dksX4_undo_2 19 rfl rfl)
theorem dX4_undo_68 : decode cX4_undo 68 = .ok (.ireturn, 1) := dk_172 (dk_at dksX4_undo_2 22 rfl rfl)
abbrev cX4_save : ByteArray := prog_17_method_90_code
def yX4_save : MethodName := ⟨RX4, "save", "()I"⟩
def dkwX4_save_1 : List UInt8 := [46, 79, 132, 1, 1, 167, 255, 234, 42, 4, 181, 1, 23, 42, 180, 0, 9, 4, 46, 172]
abbrev dktX4_save_1 : List UInt8 := dkwX4_save_1 ++ []
def dkwX4_save_0 : List UInt8 := [42, 3, 181, 0, 54, 3, 60, 27, 17, 1, 50, 162, 0, 21, 42, 180, 0, 19, 27, 42, 180, 0, 9, 27]
abbrev dktX4_save_0 : List UInt8 := dkwX4_save_0 ++ dktX4_save_1
theorem dksX4_save_0 : cX4_save.data.toList.drop 0 = dktX4_save_0 := by decide +kernel
theorem dksX4_save_1 : cX4_save.data.toList.drop 24 = dktX4_save_1 := dk_seg dksX4_save_0 24 rfl rfl
theorem dX4_save_0 : decode cX4_save 0 = .ok (.aload_n 0, 1) := dk_42 (dk_at dksX4_save_0 0 rfl rfl)
theorem dX4_save_1 : decode cX4_save 1 = .ok (.iconst 0, 1) := dk_3 (dk_at dksX4_save_0 1 rfl rfl)
theorem dX4_save_2 : decode cX4_save 2 = .ok (.putfield 54, 3) := dk_181 0 54 (dk_at dksX4_save_0 2 rfl rfl)
theorem dX4_save_5 : decode cX4_save 5 = .ok (.iconst 0, 1) := dk_3 (dk_at dksX4_save_0 5 rfl rfl)
theorem dX4_save_6 : decode cX4_save 6 = .ok (.istore_n 1, 1) := dk_60 (dk_at dksX4_save_0 6 rfl rfl)
theorem dX4_save_7 : decode cX4_save 7 = .ok (.iload_n 1, 1) := dk_27 (dk_at dksX4_save_0 7 rfl rfl)
theorem dX4_save_8 : decode cX4_save 8 = .ok (.sipush 306, 3) := dk_17 1 50 (dk_at dksX4_save_0 8 rfl rfl)
theorem dX4_save_11 : decode cX4_save 11 = .ok (.if_icmp .ge 21, 3) := dk_162 0 21 (dk_at dksX4_save_0 11 rfl rfl)
theorem dX4_save_14 : decode cX4_save 14 = .ok (.aload_n 0, 1) := dk_42 (dk_at dksX4_save_0 14 rfl rfl)
theorem dX4_save_15 : decode cX4_save 15 = .ok (.getfield 19, 3) := dk_180 0 19 (dk_at dksX4_save_0 15 rfl rfl)
theorem dX4_save_18 : decode cX4_save 18 = .ok (.iload_n 1, 1) := dk_27 (dk_at dksX4_save_0 18 rfl rfl)
theorem dX4_save_19 : decode cX4_save 19 = .ok (.aload_n 0, 1) := dk_42 (dk_at dksX4_save_0 19 rfl rfl)
theorem dX4_save_20 : decode cX4_save 20 = .ok (.getfield 9, 3) := dk_180 0 9 (dk_at dksX4_save_0 20 rfl rfl)
theorem dX4_save_23 : decode cX4_save 23 = .ok (.iload_n 1, 1) := dk_27 (dk_at dksX4_save_0 23 rfl rfl)
theorem dX4_save_24 : decode cX4_save 24 = .ok (.iaload, 1) := dk_46 (dk_at dksX4_save_1 0 rfl rfl)
theorem dX4_save_25 : decode cX4_save 25 = .ok (.iastore, 1) := dk_79 (dk_at dksX4_save_1 1 rfl rfl)
theorem dX4_save_26 : decode cX4_save 26 = .ok (.iinc 1 1, 3) := dk_132 1 1 (dk_at dksX4_save_1 2 rfl rfl)
theorem dX4_save_29 : decode cX4_save 29 = .ok (.goto (-22), 3) := dk_167 255 234 (dk_at dksX4_save_1 5 rfl rfl)
theorem dX4_save_32 : decode cX4_save 32 = .ok (.aload_n 0, 1) := dk_42 (dk_at dksX4_save_1 8 rfl rfl)
theorem dX4_save_33 : decode cX4_save 33 = .ok (.iconst 1, 1) := dk_4 (dk_at dksX4_save_1 9 rfl rfl)
theorem dX4_save_34 : decode cX4_save 34 = .ok (.putfield 279, 3) := dk_181 1 23 (dk_at dksX4_save_1 10 rfl rfl)
theorem dX4_save_37 : decode cX4_save 37 = .ok (.aload_n 0, 1) := dk_42 (dk_at dksX4_save_1 13 rfl rfl)
theorem dX4_save_38 : decode cX4_save 38 = .ok (.getfield 9, 3) := dk_180 0 9 (dk_at dksX4_save_1 14 rfl rfl)
theorem dX4_save_41 : decode cX4_save 41 = .ok (.iconst 1, 1) := dk_4 (dk_at dksX4_save_1 17 rfl rfl)
theorem dX4_save_42 : decode cX4_save 42 = .ok (.iaload, 1) := dk_46 (dk_at dksX4_save_1 18 rfl rfl)
theorem dX4_save_43 : decode cX4_save 43 = .ok (.ireturn, 1) := dk_172 (dk_at dksX4_save_1 19 rfl rfl)
abbrev cX4_restore : ByteArray := prog_17_method_91_code
def yX4_restore : MethodName := ⟨RX4, "restore", "()I"⟩
def dkwX4_restore_2 : List UInt8 := [181, 0, 68, 42, 180, 0, 9, 4, 46, 172]
abbrev dktX4_restore_2 : List UInt8 := dkwX4_restore_2 ++ []
def dkwX4_restore_1 : List UInt8 := [162, 0, 21, 42, 180, 0, 9, 27, 42, 180, 0, 19, 27, 46, 79, 132, 1, 1, 167, 255, 234, 42, 3]
abbrev dktX4_restore_1 : List UInt8 := dkwX4_restore_1 ++ dktX4_restore_2
def dkwX4_restore_0 : List UInt8 := [42, 3, 181, 0, 54, 42, 180, 1, 23, 154, 0, 9, 42, 4, 182, 0, 60, 172, 3, 60, 27, 17, 1, 50]
abbrev dktX4_restore_0 : List UInt8 := dkwX4_restore_0 ++ dktX4_restore_1
theorem dksX4_restore_0 : cX4_restore.data.toList.drop 0 = dktX4_restore_0 := by decide +kernel
theorem dksX4_restore_1 : cX4_restore.data.toList.drop 24 = dktX4_restore_1 := dk_seg dksX4_restore_0 24 rfl rfl
theorem dksX4_restore_2 : cX4_restore.data.toList.drop 47 = dktX4_restore_2 := dk_seg dksX4_restore_1 23 rfl rfl
theorem dX4_restore_0 : decode cX4_restore 0 = .ok (.aload_n 0, 1) := dk_42 (dk_at dksX4_restore_0 0 rfl rfl)
theorem dX4_restore_1 : decode cX4_restore 1 = .ok (.iconst 0, 1) := dk_3 (dk_at dksX4_restore_0 1 rfl rfl)
theorem dX4_restore_2 : decode cX4_restore 2 = .ok (.putfield 54, 3) := dk_181 0 54 (dk_at dksX4_restore_0 2 rfl rfl)
theorem dX4_restore_5 : decode cX4_restore 5 = .ok (.aload_n 0, 1) := dk_42 (dk_at dksX4_restore_0 5 rfl rfl)
theorem dX4_restore_6 : decode cX4_restore 6 = .ok (.getfield 279, 3) := dk_180 1 23 (dk_at dksX4_restore_0 6 rfl rfl)
theorem dX4_restore_9 : decode cX4_restore 9 = .ok (.ifCond .ne 9, 3) := dk_154 0 9 (dk_at dksX4_restore_0 9 rfl rfl)
theorem dX4_restore_12 : decode cX4_restore 12 = .ok (.aload_n 0, 1) := dk_42 (dk_at dksX4_restore_0 12 rfl rfl)
theorem dX4_restore_13 : decode cX4_restore 13 = .ok (.iconst 1, 1) := dk_4 (dk_at dksX4_restore_0 13 rfl rfl)
theorem dX4_restore_14 : decode cX4_restore 14 = .ok (.invokevirtual 60, 3) := dk_182 0 60 (dk_at dksX4_restore_0 14 rfl rfl)
theorem dX4_restore_17 : decode cX4_restore 17 = .ok (.ireturn, 1) := dk_172 (dk_at dksX4_restore_0 17 rfl rfl)
theorem dX4_restore_18 : decode cX4_restore 18 = .ok (.iconst 0, 1) := dk_3 (dk_at dksX4_restore_0 18 rfl rfl)
theorem dX4_restore_19 : decode cX4_restore 19 = .ok (.istore_n 1, 1) := dk_60 (dk_at dksX4_restore_0 19 rfl rfl)
theorem dX4_restore_20 : decode cX4_restore 20 = .ok (.iload_n 1, 1) := dk_27 (dk_at dksX4_restore_0 20 rfl rfl)
theorem dX4_restore_21 : decode cX4_restore 21 = .ok (.sipush 306, 3) := dk_17 1 50 (dk_at dksX4_restore_0 21 rfl rfl)
theorem dX4_restore_24 : decode cX4_restore 24 = .ok (.if_icmp .ge 21, 3) := dk_162 0 21 (dk_at dksX4_restore_1 0 rfl rfl)
theorem dX4_restore_27 : decode cX4_restore 27 = .ok (.aload_n 0, 1) := dk_42 (dk_at dksX4_restore_1 3 rfl rfl)
theorem dX4_restore_28 : decode cX4_restore 28 = .ok (.getfield 9, 3) := dk_180 0 9 (dk_at dksX4_restore_1 4 rfl rfl)
theorem dX4_restore_31 : decode cX4_restore 31 = .ok (.iload_n 1, 1) := dk_27 (dk_at dksX4_restore_1 7 rfl rfl)
theorem dX4_restore_32 : decode cX4_restore 32 = .ok (.aload_n 0, 1) := dk_42 (dk_at dksX4_restore_1 8 rfl rfl)
theorem dX4_restore_33 : decode cX4_restore 33 = .ok (.getfield 19, 3) := dk_180 0 19 (dk_at dksX4_restore_1 9 rfl rfl)
theorem dX4_restore_36 : decode cX4_restore 36 = .ok (.iload_n 1, 1) := dk_27 (dk_at dksX4_restore_1 12 rfl rfl)
theorem dX4_restore_37 : decode cX4_restore 37 = .ok (.iaload, 1) := dk_46 (dk_at dksX4_restore_1 13 rfl rfl)
theorem dX4_restore_38 : decode cX4_restore 38 = .ok (.iastore, 1) := dk_79 (dk_at dksX4_restore_1 14 rfl rfl)
theorem dX4_restore_39 : decode cX4_restore 39 = .ok (.iinc 1 1, 3) := dk_132 1 1 (dk_at dksX4_restore_1 15 rfl rfl)
theorem dX4_restore_42 : decode cX4_restore 42 = .ok (.goto (-22), 3) := dk_167 255 234 (dk_at dksX4_restore_1 18 rfl rfl)
theorem dX4_restore_45 : decode cX4_restore 45 = .ok (.aload_n 0, 1) := dk_42 (dk_at dksX4_restore_1 21 rfl rfl)
theorem dX4_restore_46 : decode cX4_restore 46 = .ok (.iconst 0, 1) := dk_3 (dk_at dksX4_restore_1 22 rfl rfl)
theorem dX4_restore_47 : decode cX4_restore 47 = .ok (.putfield 68, 3) := dk_181 0 68 (dk_at dksX4_restore_2 0 rfl rfl)
theorem dX4_restore_50 : decode cX4_restore 50 = .ok (.aload_n 0, 1) := dk_42 (dk_at dksX4_restore_2 3 rfl rfl)
theorem dX4_restore_51 : decode cX4_restore 51 = .ok (.getfield 9, 3) := dk_180 0 9 (dk_at dksX4_restore_2 4 rfl rfl)
theorem dX4_restore_54 : decode cX4_restore 54 = .ok (.iconst 1, 1) := dk_4 (dk_at dksX4_restore_2 7 rfl rfl)
theorem dX4_restore_55 : decode cX4_restore 55 = .ok (.iaload, 1) := dk_46 (dk_at dksX4_restore_2 8 rfl rfl)
theorem dX4_restore_56 : decode cX4_restore 56 = .ok (.ireturn, 1) := dk_172 (dk_at dksX4_restore_2 9 rfl rfl)
theorem q86 : (Jvm.Cond.initialized "JumpHallModel") ∈ lw_all := lw_g (lw_at lw_m1 13 rfl) rfl
theorem q3020 : (Jvm.Cond.instantiable "JumpHallModel" (25 : Nat)) ∈ lw_all := lw_g (lw_at lw_m13 67 rfl) rfl
theorem q3022 : (Jvm.Cond.instanceMethod ({ cls := "JumpHallModel", name := "<init>", desc := "()V" } : Jvm.MethodName)) ∈ lw_all := lw_g (lw_at lw_m13 69 rfl) rfl
theorem q3023 : (Jvm.Cond.code ({ cls := "JumpHallModel", name := "<init>", desc := "()V" } : Jvm.MethodName) prog_17_method_1_code (1 : Nat) (Option.none : Option Jvm.ClassFile.FieldType)) ∈ lw_all := lw_g (lw_at lw_m13 70 rfl) rfl
theorem q3024 : (Jvm.Cond.methodLink "JumpHallModel" (1 : Nat) ({ cls := "java/lang/Object", name := "<init>", desc := "()V" } : Jvm.MethodName)) ∈ lw_all := lw_g (lw_at lw_m13 71 rfl) rfl
theorem q3025 : (Jvm.Cond.fieldLink "JumpHallModel" (9 : Nat) "JumpHallModel" "m" "[I") ∈ lw_all := lw_g (lw_at lw_m13 72 rfl) rfl
theorem q3026 : (Jvm.Cond.fieldLink "JumpHallModel" (13 : Nat) "JumpHallModel" "aside" "[I") ∈ lw_all := lw_g (lw_at lw_m13 73 rfl) rfl
theorem q3027 : (Jvm.Cond.fieldLink "JumpHallModel" (16 : Nat) "JumpHallModel" "before" "[I") ∈ lw_all := lw_g (lw_at lw_m13 74 rfl) rfl
theorem q3028 : (Jvm.Cond.fieldLink "JumpHallModel" (19 : Nat) "JumpHallModel" "saved" "[I") ∈ lw_all := lw_g (lw_at lw_m13 75 rfl) rfl
theorem q3029 : (Jvm.Cond.fieldLink "JumpHallModel" (279 : Nat) "JumpHallModel" "isSaved" "Z") ∈ lw_all := lw_g (lw_at lw_m13 76 rfl) rfl
theorem q3030 : (Jvm.Cond.fieldLink "JumpHallModel" (22 : Nat) "JumpHallModel" "past" "[I") ∈ lw_all := lw_g (lw_at lw_m13 77 rfl) rfl
theorem q3031 : (Jvm.Cond.fieldLink "JumpHallModel" (68 : Nat) "JumpHallModel" "changes" "I") ∈ lw_all := lw_g (lw_at lw_m13 78 rfl) rfl
theorem q3032 : (Jvm.Cond.fieldLink "JumpHallModel" (54 : Nat) "JumpHallModel" "thrown" "I") ∈ lw_all := lw_g (lw_at lw_m13 79 rfl) rfl
theorem q3033 : (Jvm.Cond.fieldLink "JumpHallModel" (25 : Nat) "JumpHallModel" "why" "[I") ∈ lw_all := lw_g (lw_at lw_m13 80 rfl) rfl
theorem q3034 : (Jvm.Cond.fieldLink "JumpHallModel" (28 : Nat) "JumpHallModel" "more" "[I") ∈ lw_all := lw_g (lw_at lw_m13 81 rfl) rfl
theorem q3035 : (Jvm.Cond.fieldLink "JumpHallModel" (57 : Nat) "JumpHallModel" "chainMany" "I") ∈ lw_all := lw_g (lw_at lw_m13 82 rfl) rfl
theorem q3036 : (Jvm.Cond.fieldLink "JumpHallModel" (31 : Nat) "JumpHallModel" "errorAt" "I") ∈ lw_all := lw_g (lw_at lw_m13 83 rfl) rfl
theorem q3037 : (Jvm.Cond.fieldLink "JumpHallModel" (35 : Nat) "JumpHallModel" "text" "[I") ∈ lw_all := lw_g (lw_at lw_m13 84 rfl) rfl
theorem q3038 : (Jvm.Cond.fieldLink "JumpHallModel" (228 : Nat) "JumpHallModel" "textMany" "I") ∈ lw_all := lw_g (lw_at lw_m13 85 rfl) rfl
theorem q3039 : (Jvm.Cond.fieldLink "JumpHallModel" (134 : Nat) "JumpHallModel" "upDetail" "I") ∈ lw_all := lw_g (lw_at lw_m13 86 rfl) rfl
theorem q3040 : (Jvm.Cond.fieldLink "JumpHallModel" (38 : Nat) "JumpHallModel" "line" "[I") ∈ lw_all := lw_g (lw_at lw_m13 87 rfl) rfl
theorem q3041 : (Jvm.Cond.fieldLink "JumpHallModel" (210 : Nat) "JumpHallModel" "lineMany" "I") ∈ lw_all := lw_g (lw_at lw_m13 88 rfl) rfl
theorem q3042 : (Jvm.Cond.fieldLink "JumpHallModel" (41 : Nat) "JumpHallModel" "letters" "[C") ∈ lw_all := lw_g (lw_at lw_m13 89 rfl) rfl
theorem q3043 : (Jvm.Cond.fieldLink "JumpHallModel" (45 : Nat) "JumpHallModel" "begins" "[I") ∈ lw_all := lw_g (lw_at lw_m13 90 rfl) rfl
theorem q3044 : (Jvm.Cond.fieldLink "JumpHallModel" (48 : Nat) "JumpHallModel" "wants" "[I") ∈ lw_all := lw_g (lw_at lw_m13 91 rfl) rfl
theorem q3045 : (Jvm.Cond.fieldLink "JumpHallModel" (51 : Nat) "JumpHallModel" "commands" "[I") ∈ lw_all := lw_g (lw_at lw_m13 92 rfl) rfl
theorem q3046 : (Jvm.Cond.fieldLink "JumpHallModel" (255 : Nat) "JumpHallModel" "commandMany" "I") ∈ lw_all := lw_g (lw_at lw_m13 93 rfl) rfl
theorem q3047 : (Jvm.Cond.fieldLink "JumpHallModel" (235 : Nat) "JumpHallModel" "place" "I") ∈ lw_all := lw_g (lw_at lw_m13 94 rfl) rfl
theorem q3048 : (Jvm.Cond.fieldLink "JumpHallModel" (238 : Nat) "JumpHallModel" "size0" "I") ∈ lw_all := lw_g (lw_at lw_m13 95 rfl) rfl
theorem q3049 : (Jvm.Cond.fieldLink "JumpHallModel" (241 : Nat) "JumpHallModel" "isWrong" "Z") ∈ lw_all := lw_g (lw_at lw_m13 96 rfl) rfl
theorem q3102 : (Jvm.Cond.instanceMethod ({ cls := "JumpHallModel", name := "thrown", desc := "()I" } : Jvm.MethodName)) ∈ lw_all := lw_g (lw_at lw_m13 149 rfl) rfl
theorem q3103 : (Jvm.Cond.selects "JumpHallModel" ({ cls := "JumpHallModel", name := "thrown", desc := "()I" } : Jvm.MethodName) ({ cls := "JumpHallModel", name := "thrown", desc := "()I" } : Jvm.MethodName)) ∈ lw_all := lw_g (lw_at lw_m13 150 rfl) rfl
theorem q3104 : (Jvm.Cond.code ({ cls := "JumpHallModel", name := "thrown", desc := "()I" } : Jvm.MethodName) prog_17_method_2_code (1 : Nat) (Option.some Jvm.ClassFile.FieldType.int)) ∈ lw_all := lw_g (lw_at lw_m13 151 rfl) rfl
theorem q3106 : (Jvm.Cond.instanceMethod ({ cls := "JumpHallModel", name := "mat", desc := "()I" } : Jvm.MethodName)) ∈ lw_all := lw_g (lw_at lw_m13 153 rfl) rfl
theorem q3107 : (Jvm.Cond.selects "JumpHallModel" ({ cls := "JumpHallModel", name := "mat", desc := "()I" } : Jvm.MethodName) ({ cls := "JumpHallModel", name := "mat", desc := "()I" } : Jvm.MethodName)) ∈ lw_all := lw_g (lw_at lw_m13 154 rfl) rfl
theorem q3108 : (Jvm.Cond.code ({ cls := "JumpHallModel", name := "mat", desc := "()I" } : Jvm.MethodName) prog_17_method_17_code (2 : Nat) (Option.some Jvm.ClassFile.FieldType.int)) ∈ lw_all := lw_g (lw_at lw_m13 155 rfl) rfl
theorem q3109 : (Jvm.Cond.methodLink "JumpHallModel" (79 : Nat) ({ cls := "JumpHallModel", name := "layAside", desc := "()V" } : Jvm.MethodName)) ∈ lw_all := lw_g (lw_at lw_m13 156 rfl) rfl
theorem q3111 : (Jvm.Cond.instanceMethod ({ cls := "JumpHallModel", name := "layAside", desc := "()V" } : Jvm.MethodName)) ∈ lw_all := lw_g (lw_at lw_m13 158 rfl) rfl
theorem q3112 : (Jvm.Cond.code ({ cls := "JumpHallModel", name := "layAside", desc := "()V" } : Jvm.MethodName) prog_17_method_7_code (2 : Nat) (Option.none : Option Jvm.ClassFile.FieldType)) ∈ lw_all := lw_g (lw_at lw_m13 159 rfl) rfl
theorem q3113 : (Jvm.Cond.methodLink "JumpHallModel" (64 : Nat) ({ cls := "JumpHallModel", name := "refuse", desc := "(III)I" } : Jvm.MethodName)) ∈ lw_all := lw_g (lw_at lw_m13 160 rfl) rfl
theorem q3115 : (Jvm.Cond.instanceMethod ({ cls := "JumpHallModel", name := "refuse", desc := "(III)I" } : Jvm.MethodName)) ∈ lw_all := lw_g (lw_at lw_m13 162 rfl) rfl
theorem q3116 : (Jvm.Cond.code ({ cls := "JumpHallModel", name := "refuse", desc := "(III)I" } : Jvm.MethodName) prog_17_method_5_code (4 : Nat) (Option.some Jvm.ClassFile.FieldType.int)) ∈ lw_all := lw_g (lw_at lw_m13 163 rfl) rfl
theorem q3117 : (Jvm.Cond.methodLink "JumpHallModel" (60 : Nat) ({ cls := "JumpHallModel", name := "throwing", desc := "(I)I" } : Jvm.MethodName)) ∈ lw_all := lw_g (lw_at lw_m13 164 rfl) rfl
theorem q3119 : (Jvm.Cond.instanceMethod ({ cls := "JumpHallModel", name := "throwing", desc := "(I)I" } : Jvm.MethodName)) ∈ lw_all := lw_g (lw_at lw_m13 166 rfl) rfl
theorem q3120 : (Jvm.Cond.code ({ cls := "JumpHallModel", name := "throwing", desc := "(I)I" } : Jvm.MethodName) prog_17_method_4_code (2 : Nat) (Option.some Jvm.ClassFile.FieldType.int)) ∈ lw_all := lw_g (lw_at lw_m13 167 rfl) rfl
theorem q3121 : (Jvm.Cond.methodLink "JumpHallModel" (82 : Nat) ({ cls := "JumpHallModel", name := "of", desc := "(I)I" } : Jvm.MethodName)) ∈ lw_all := lw_g (lw_at lw_m13 168 rfl) rfl
theorem q3122 : (Jvm.Cond.static ({ cls := "JumpHallModel", name := "of", desc := "(I)I" } : Jvm.MethodName)) ∈ lw_all := lw_g (lw_at lw_m13 169 rfl) rfl
theorem q3123 : (Jvm.Cond.code ({ cls := "JumpHallModel", name := "of", desc := "(I)I" } : Jvm.MethodName) prog_17_method_9_code (1 : Nat) (Option.some Jvm.ClassFile.FieldType.int)) ∈ lw_all := lw_g (lw_at lw_m13 170 rfl) rfl
theorem q3124 : (Jvm.Cond.methodLink "JumpHallModel" (85 : Nat) ({ cls := "JumpHallModel", name := "changed", desc := "(I)I" } : Jvm.MethodName)) ∈ lw_all := lw_g (lw_at lw_m13 171 rfl) rfl
theorem q3126 : (Jvm.Cond.instanceMethod ({ cls := "JumpHallModel", name := "changed", desc := "(I)I" } : Jvm.MethodName)) ∈ lw_all := lw_g (lw_at lw_m13 173 rfl) rfl
theorem q3127 : (Jvm.Cond.code ({ cls := "JumpHallModel", name := "changed", desc := "(I)I" } : Jvm.MethodName) prog_17_method_8_code (3 : Nat) (Option.some Jvm.ClassFile.FieldType.int)) ∈ lw_all := lw_g (lw_at lw_m13 174 rfl) rfl
theorem q3129 : (Jvm.Cond.instanceMethod ({ cls := "JumpHallModel", name := "fix", desc := "(II)I" } : Jvm.MethodName)) ∈ lw_all := lw_g (lw_at lw_m13 176 rfl) rfl
theorem q3130 : (Jvm.Cond.selects "JumpHallModel" ({ cls := "JumpHallModel", name := "fix", desc := "(II)I" } : Jvm.MethodName) ({ cls := "JumpHallModel", name := "fix", desc := "(II)I" } : Jvm.MethodName)) ∈ lw_all := lw_g (lw_at lw_m13 177 rfl) rfl
theorem q3131 : (Jvm.Cond.code ({ cls := "JumpHallModel", name := "fix", desc := "(II)I" } : Jvm.MethodName) prog_17_method_26_code (3 : Nat) (Option.some Jvm.ClassFile.FieldType.int)) ∈ lw_all := lw_g (lw_at lw_m13 178 rfl) rfl
theorem q3132 : (Jvm.Cond.methodLink "JumpHallModel" (110 : Nat) ({ cls := "JumpHallModel", name := "fixIt", desc := "(II)I" } : Jvm.MethodName)) ∈ lw_all := lw_g (lw_at lw_m13 179 rfl) rfl
theorem q3134 : (Jvm.Cond.instanceMethod ({ cls := "JumpHallModel", name := "fixIt", desc := "(II)I" } : Jvm.MethodName)) ∈ lw_all := lw_g (lw_at lw_m13 181 rfl) rfl
theorem q3135 : (Jvm.Cond.code ({ cls := "JumpHallModel", name := "fixIt", desc := "(II)I" } : Jvm.MethodName) prog_17_method_25_code (3 : Nat) (Option.some Jvm.ClassFile.FieldType.int)) ∈ lw_all := lw_g (lw_at lw_m13 182 rfl) rfl
theorem q3136 : (Jvm.Cond.methodLink "JumpHallModel" (98 : Nat) ({ cls := "JumpHallModel", name := "isMat", desc := "(I)Z" } : Jvm.MethodName)) ∈ lw_all := lw_g (lw_at lw_m13 183 rfl) rfl
theorem q3138 : (Jvm.Cond.instanceMethod ({ cls := "JumpHallModel", name := "isMat", desc := "(I)Z" } : Jvm.MethodName)) ∈ lw_all := lw_g (lw_at lw_m13 185 rfl) rfl
theorem q3139 : (Jvm.Cond.code ({ cls := "JumpHallModel", name := "isMat", desc := "(I)Z" } : Jvm.MethodName) prog_17_method_12_code (2 : Nat) (Option.some Jvm.ClassFile.FieldType.boolean)) ∈ lw_all := lw_g (lw_at lw_m13 186 rfl) rfl
theorem q3140 : (Jvm.Cond.methodLink "JumpHallModel" (71 : Nat) ({ cls := "JumpHallModel", name := "in", desc := "(JJJ)Z" } : Jvm.MethodName)) ∈ lw_all := lw_g (lw_at lw_m13 187 rfl) rfl
theorem q3141 : (Jvm.Cond.static ({ cls := "JumpHallModel", name := "in", desc := "(JJJ)Z" } : Jvm.MethodName)) ∈ lw_all := lw_g (lw_at lw_m13 188 rfl) rfl
theorem q3142 : (Jvm.Cond.code ({ cls := "JumpHallModel", name := "in", desc := "(JJJ)Z" } : Jvm.MethodName) prog_17_method_3_code (6 : Nat) (Option.some Jvm.ClassFile.FieldType.boolean)) ∈ lw_all := lw_g (lw_at lw_m13 189 rfl) rfl
theorem q3143 : (Jvm.Cond.constantLong "JumpHallModel" (102 : Nat) (7 : Int64)) ∈ lw_all := lw_g (lw_at lw_m13 190 rfl) rfl
theorem q3144 : (Jvm.Cond.methodLink "JumpHallModel" (104 : Nat) ({ cls := "JumpHallModel", name := "lowestOn", desc := "(I)I" } : Jvm.MethodName)) ∈ lw_all := lw_g (lw_at lw_m13 191 rfl) rfl
theorem q3146 : (Jvm.Cond.instanceMethod ({ cls := "JumpHallModel", name := "lowestOn", desc := "(I)I" } : Jvm.MethodName)) ∈ lw_all := lw_g (lw_at lw_m13 193 rfl) rfl
theorem q3147 : (Jvm.Cond.code ({ cls := "JumpHallModel", name := "lowestOn", desc := "(I)I" } : Jvm.MethodName) prog_17_method_23_code (3 : Nat) (Option.some Jvm.ClassFile.FieldType.int)) ∈ lw_all := lw_g (lw_at lw_m13 194 rfl) rfl
theorem q3148 : (Jvm.Cond.methodLink "JumpHallModel" (94 : Nat) ({ cls := "JumpHallModel", name := "isOn", desc := "(II)Z" } : Jvm.MethodName)) ∈ lw_all := lw_g (lw_at lw_m13 195 rfl) rfl
theorem q3150 : (Jvm.Cond.instanceMethod ({ cls := "JumpHallModel", name := "isOn", desc := "(II)Z" } : Jvm.MethodName)) ∈ lw_all := lw_g (lw_at lw_m13 197 rfl) rfl
theorem q3151 : (Jvm.Cond.code ({ cls := "JumpHallModel", name := "isOn", desc := "(II)Z" } : Jvm.MethodName) prog_17_method_21_code (3 : Nat) (Option.some Jvm.ClassFile.FieldType.boolean)) ∈ lw_all := lw_g (lw_at lw_m13 198 rfl) rfl
theorem q3152 : (Jvm.Cond.methodLink "JumpHallModel" (91 : Nat) ({ cls := "JumpHallModel", name := "at0", desc := "(I)I" } : Jvm.MethodName)) ∈ lw_all := lw_g (lw_at lw_m13 199 rfl) rfl
theorem q3153 : (Jvm.Cond.static ({ cls := "JumpHallModel", name := "at0", desc := "(I)I" } : Jvm.MethodName)) ∈ lw_all := lw_g (lw_at lw_m13 200 rfl) rfl
theorem q3154 : (Jvm.Cond.code ({ cls := "JumpHallModel", name := "at0", desc := "(I)I" } : Jvm.MethodName) prog_17_method_10_code (1 : Nat) (Option.some Jvm.ClassFile.FieldType.int)) ∈ lw_all := lw_g (lw_at lw_m13 201 rfl) rfl
theorem q3155 : (Jvm.Cond.methodLink "JumpHallModel" (107 : Nat) ({ cls := "JumpHallModel", name := "bears", desc := "(I)I" } : Jvm.MethodName)) ∈ lw_all := lw_g (lw_at lw_m13 202 rfl) rfl
theorem q3157 : (Jvm.Cond.instanceMethod ({ cls := "JumpHallModel", name := "bears", desc := "(I)I" } : Jvm.MethodName)) ∈ lw_all := lw_g (lw_at lw_m13 204 rfl) rfl
theorem q3158 : (Jvm.Cond.code ({ cls := "JumpHallModel", name := "bears", desc := "(I)I" } : Jvm.MethodName) prog_17_method_19_code (2 : Nat) (Option.some Jvm.ClassFile.FieldType.int)) ∈ lw_all := lw_g (lw_at lw_m13 205 rfl) rfl
theorem q3159 : (Jvm.Cond.methodLink "JumpHallModel" (88 : Nat) ({ cls := "JumpHallModel", name := "broken", desc := "(I)I" } : Jvm.MethodName)) ∈ lw_all := lw_g (lw_at lw_m13 206 rfl) rfl
theorem q3161 : (Jvm.Cond.instanceMethod ({ cls := "JumpHallModel", name := "broken", desc := "(I)I" } : Jvm.MethodName)) ∈ lw_all := lw_g (lw_at lw_m13 208 rfl) rfl
theorem q3162 : (Jvm.Cond.code ({ cls := "JumpHallModel", name := "broken", desc := "(I)I" } : Jvm.MethodName) prog_17_method_18_code (4 : Nat) (Option.some Jvm.ClassFile.FieldType.int)) ∈ lw_all := lw_g (lw_at lw_m13 209 rfl) rfl
theorem q3164 : (Jvm.Cond.instanceMethod ({ cls := "JumpHallModel", name := "open", desc := "(I)I" } : Jvm.MethodName)) ∈ lw_all := lw_g (lw_at lw_m13 211 rfl) rfl
theorem q3165 : (Jvm.Cond.selects "JumpHallModel" ({ cls := "JumpHallModel", name := "open", desc := "(I)I" } : Jvm.MethodName) ({ cls := "JumpHallModel", name := "open", desc := "(I)I" } : Jvm.MethodName)) ∈ lw_all := lw_g (lw_at lw_m13 212 rfl) rfl
theorem q3166 : (Jvm.Cond.code ({ cls := "JumpHallModel", name := "open", desc := "(I)I" } : Jvm.MethodName) prog_17_method_28_code (2 : Nat) (Option.some Jvm.ClassFile.FieldType.int)) ∈ lw_all := lw_g (lw_at lw_m13 213 rfl) rfl
theorem q3167 : (Jvm.Cond.methodLink "JumpHallModel" (114 : Nat) ({ cls := "JumpHallModel", name := "openIt", desc := "(I)I" } : Jvm.MethodName)) ∈ lw_all := lw_g (lw_at lw_m13 214 rfl) rfl
theorem q3169 : (Jvm.Cond.instanceMethod ({ cls := "JumpHallModel", name := "openIt", desc := "(I)I" } : Jvm.MethodName)) ∈ lw_all := lw_g (lw_at lw_m13 216 rfl) rfl
theorem q3170 : (Jvm.Cond.code ({ cls := "JumpHallModel", name := "openIt", desc := "(I)I" } : Jvm.MethodName) prog_17_method_27_code (2 : Nat) (Option.some Jvm.ClassFile.FieldType.int)) ∈ lw_all := lw_g (lw_at lw_m13 217 rfl) rfl
theorem q3172 : (Jvm.Cond.instanceMethod ({ cls := "JumpHallModel", name := "matOf", desc := "(II)I" } : Jvm.MethodName)) ∈ lw_all := lw_g (lw_at lw_m13 219 rfl) rfl
theorem q3173 : (Jvm.Cond.selects "JumpHallModel" ({ cls := "JumpHallModel", name := "matOf", desc := "(II)I" } : Jvm.MethodName) ({ cls := "JumpHallModel", name := "matOf", desc := "(II)I" } : Jvm.MethodName)) ∈ lw_all := lw_g (lw_at lw_m13 220 rfl) rfl
theorem q3174 : (Jvm.Cond.code ({ cls := "JumpHallModel", name := "matOf", desc := "(II)I" } : Jvm.MethodName) prog_17_method_29_code (3 : Nat) (Option.some Jvm.ClassFile.FieldType.int)) ∈ lw_all := lw_g (lw_at lw_m13 221 rfl) rfl
theorem q3175 : (Jvm.Cond.methodLink "JumpHallModel" (117 : Nat) ({ cls := "JumpHallModel", name := "wears", desc := "(I)I" } : Jvm.MethodName)) ∈ lw_all := lw_g (lw_at lw_m13 222 rfl) rfl
theorem q3177 : (Jvm.Cond.instanceMethod ({ cls := "JumpHallModel", name := "wears", desc := "(I)I" } : Jvm.MethodName)) ∈ lw_all := lw_g (lw_at lw_m13 224 rfl) rfl
theorem q3178 : (Jvm.Cond.code ({ cls := "JumpHallModel", name := "wears", desc := "(I)I" } : Jvm.MethodName) prog_17_method_20_code (4 : Nat) (Option.some Jvm.ClassFile.FieldType.int)) ∈ lw_all := lw_g (lw_at lw_m13 225 rfl) rfl
theorem q3179 : (Jvm.Cond.methodLink "JumpHallModel" (120 : Nat) ({ cls := "JumpHallModel", name := "on", desc := "(IZ)I" } : Jvm.MethodName)) ∈ lw_all := lw_g (lw_at lw_m13 226 rfl) rfl
theorem q3181 : (Jvm.Cond.instanceMethod ({ cls := "JumpHallModel", name := "on", desc := "(IZ)I" } : Jvm.MethodName)) ∈ lw_all := lw_g (lw_at lw_m13 228 rfl) rfl
theorem q3182 : (Jvm.Cond.code ({ cls := "JumpHallModel", name := "on", desc := "(IZ)I" } : Jvm.MethodName) prog_17_method_22_code (5 : Nat) (Option.some Jvm.ClassFile.FieldType.int)) ∈ lw_all := lw_g (lw_at lw_m13 229 rfl) rfl
theorem q3183 : (Jvm.Cond.methodLink "JumpHallModel" (124 : Nat) ({ cls := "JumpHallModel", name := "guardAt", desc := "(I)I" } : Jvm.MethodName)) ∈ lw_all := lw_g (lw_at lw_m13 230 rfl) rfl
theorem q3185 : (Jvm.Cond.instanceMethod ({ cls := "JumpHallModel", name := "guardAt", desc := "(I)I" } : Jvm.MethodName)) ∈ lw_all := lw_g (lw_at lw_m13 232 rfl) rfl
theorem q3186 : (Jvm.Cond.code ({ cls := "JumpHallModel", name := "guardAt", desc := "(I)I" } : Jvm.MethodName) prog_17_method_24_code (3 : Nat) (Option.some Jvm.ClassFile.FieldType.int)) ∈ lw_all := lw_g (lw_at lw_m13 233 rfl) rfl
theorem q3188 : (Jvm.Cond.instanceMethod ({ cls := "JumpHallModel", name := "wear", desc := "(II)I" } : Jvm.MethodName)) ∈ lw_all := lw_g (lw_at lw_m13 235 rfl) rfl
theorem q3189 : (Jvm.Cond.selects "JumpHallModel" ({ cls := "JumpHallModel", name := "wear", desc := "(II)I" } : Jvm.MethodName) ({ cls := "JumpHallModel", name := "wear", desc := "(II)I" } : Jvm.MethodName)) ∈ lw_all := lw_g (lw_at lw_m13 236 rfl) rfl
theorem q3190 : (Jvm.Cond.code ({ cls := "JumpHallModel", name := "wear", desc := "(II)I" } : Jvm.MethodName) prog_17_method_30_code (3 : Nat) (Option.some Jvm.ClassFile.FieldType.int)) ∈ lw_all := lw_g (lw_at lw_m13 237 rfl) rfl
theorem q3192 : (Jvm.Cond.instanceMethod ({ cls := "JumpHallModel", name := "bearsAgain", desc := "(I)I" } : Jvm.MethodName)) ∈ lw_all := lw_g (lw_at lw_m13 239 rfl) rfl
theorem q3193 : (Jvm.Cond.selects "JumpHallModel" ({ cls := "JumpHallModel", name := "bearsAgain", desc := "(I)I" } : Jvm.MethodName) ({ cls := "JumpHallModel", name := "bearsAgain", desc := "(I)I" } : Jvm.MethodName)) ∈ lw_all := lw_g (lw_at lw_m14 0 rfl) rfl
theorem q3194 : (Jvm.Cond.code ({ cls := "JumpHallModel", name := "bearsAgain", desc := "(I)I" } : Jvm.MethodName) prog_17_method_31_code (2 : Nat) (Option.some Jvm.ClassFile.FieldType.int)) ∈ lw_all := lw_g (lw_at lw_m14 1 rfl) rfl
theorem q3196 : (Jvm.Cond.instanceMethod ({ cls := "JumpHallModel", name := "bestMat", desc := "()I" } : Jvm.MethodName)) ∈ lw_all := lw_g (lw_at lw_m14 3 rfl) rfl
theorem q3197 : (Jvm.Cond.selects "JumpHallModel" ({ cls := "JumpHallModel", name := "bestMat", desc := "()I" } : Jvm.MethodName) ({ cls := "JumpHallModel", name := "bestMat", desc := "()I" } : Jvm.MethodName)) ∈ lw_all := lw_g (lw_at lw_m14 4 rfl) rfl
theorem q3198 : (Jvm.Cond.code ({ cls := "JumpHallModel", name := "bestMat", desc := "()I" } : Jvm.MethodName) prog_17_method_32_code (4 : Nat) (Option.some Jvm.ClassFile.FieldType.int)) ∈ lw_all := lw_g (lw_at lw_m14 5 rfl) rfl
theorem q3200 : (Jvm.Cond.instanceMethod ({ cls := "JumpHallModel", name := "jumper", desc := "(II)I" } : Jvm.MethodName)) ∈ lw_all := lw_g (lw_at lw_m14 7 rfl) rfl
theorem q3201 : (Jvm.Cond.selects "JumpHallModel" ({ cls := "JumpHallModel", name := "jumper", desc := "(II)I" } : Jvm.MethodName) ({ cls := "JumpHallModel", name := "jumper", desc := "(II)I" } : Jvm.MethodName)) ∈ lw_all := lw_g (lw_at lw_m14 8 rfl) rfl
theorem q3202 : (Jvm.Cond.code ({ cls := "JumpHallModel", name := "jumper", desc := "(II)I" } : Jvm.MethodName) prog_17_method_34_code (3 : Nat) (Option.some Jvm.ClassFile.FieldType.int)) ∈ lw_all := lw_g (lw_at lw_m14 9 rfl) rfl
theorem q3203 : (Jvm.Cond.constantLong "JumpHallModel" (127 : Nat) (10 : Int64)) ∈ lw_all := lw_g (lw_at lw_m14 10 rfl) rfl
theorem q3204 : (Jvm.Cond.constantLong "JumpHallModel" (129 : Nat) (99 : Int64)) ∈ lw_all := lw_g (lw_at lw_m14 11 rfl) rfl
theorem q3205 : (Jvm.Cond.constantLong "JumpHallModel" (75 : Nat) (4 : Int64)) ∈ lw_all := lw_g (lw_at lw_m14 12 rfl) rfl
theorem q3206 : (Jvm.Cond.methodLink "JumpHallModel" (131 : Nat) ({ cls := "JumpHallModel", name := "jumperComes", desc := "(III)I" } : Jvm.MethodName)) ∈ lw_all := lw_g (lw_at lw_m14 13 rfl) rfl
theorem q3208 : (Jvm.Cond.instanceMethod ({ cls := "JumpHallModel", name := "jumperComes", desc := "(III)I" } : Jvm.MethodName)) ∈ lw_all := lw_g (lw_at lw_m14 15 rfl) rfl
theorem q3209 : (Jvm.Cond.code ({ cls := "JumpHallModel", name := "jumperComes", desc := "(III)I" } : Jvm.MethodName) prog_17_method_33_code (5 : Nat) (Option.some Jvm.ClassFile.FieldType.int)) ∈ lw_all := lw_g (lw_at lw_m14 16 rfl) rfl
theorem q3211 : (Jvm.Cond.instanceMethod ({ cls := "JumpHallModel", name := "up", desc := "(II)I" } : Jvm.MethodName)) ∈ lw_all := lw_g (lw_at lw_m14 18 rfl) rfl
theorem q3212 : (Jvm.Cond.selects "JumpHallModel" ({ cls := "JumpHallModel", name := "up", desc := "(II)I" } : Jvm.MethodName) ({ cls := "JumpHallModel", name := "up", desc := "(II)I" } : Jvm.MethodName)) ∈ lw_all := lw_g (lw_at lw_m14 19 rfl) rfl
theorem q3213 : (Jvm.Cond.code ({ cls := "JumpHallModel", name := "up", desc := "(II)I" } : Jvm.MethodName) prog_17_method_37_code (3 : Nat) (Option.some Jvm.ClassFile.FieldType.int)) ∈ lw_all := lw_g (lw_at lw_m14 20 rfl) rfl
theorem q3214 : (Jvm.Cond.methodLink "JumpHallModel" (147 : Nat) ({ cls := "JumpHallModel", name := "upIt", desc := "(II)I" } : Jvm.MethodName)) ∈ lw_all := lw_g (lw_at lw_m14 21 rfl) rfl
theorem q3216 : (Jvm.Cond.instanceMethod ({ cls := "JumpHallModel", name := "upIt", desc := "(II)I" } : Jvm.MethodName)) ∈ lw_all := lw_g (lw_at lw_m14 23 rfl) rfl
theorem q3217 : (Jvm.Cond.code ({ cls := "JumpHallModel", name := "upIt", desc := "(II)I" } : Jvm.MethodName) prog_17_method_36_code (4 : Nat) (Option.some Jvm.ClassFile.FieldType.int)) ∈ lw_all := lw_g (lw_at lw_m14 24 rfl) rfl
theorem q3218 : (Jvm.Cond.methodLink "JumpHallModel" (137 : Nat) ({ cls := "JumpHallModel", name := "isJumper", desc := "(I)Z" } : Jvm.MethodName)) ∈ lw_all := lw_g (lw_at lw_m14 25 rfl) rfl
theorem q3220 : (Jvm.Cond.instanceMethod ({ cls := "JumpHallModel", name := "isJumper", desc := "(I)Z" } : Jvm.MethodName)) ∈ lw_all := lw_g (lw_at lw_m14 27 rfl) rfl
theorem q3221 : (Jvm.Cond.code ({ cls := "JumpHallModel", name := "isJumper", desc := "(I)Z" } : Jvm.MethodName) prog_17_method_13_code (2 : Nat) (Option.some Jvm.ClassFile.FieldType.boolean)) ∈ lw_all := lw_g (lw_at lw_m14 28 rfl) rfl
theorem q3222 : (Jvm.Cond.methodLink "JumpHallModel" (140 : Nat) ({ cls := "JumpHallModel", name := "upReason", desc := "(II)I" } : Jvm.MethodName)) ∈ lw_all := lw_g (lw_at lw_m14 29 rfl) rfl
theorem q3224 : (Jvm.Cond.instanceMethod ({ cls := "JumpHallModel", name := "upReason", desc := "(II)I" } : Jvm.MethodName)) ∈ lw_all := lw_g (lw_at lw_m14 31 rfl) rfl
theorem q3225 : (Jvm.Cond.code ({ cls := "JumpHallModel", name := "upReason", desc := "(II)I" } : Jvm.MethodName) prog_17_method_35_code (6 : Nat) (Option.some Jvm.ClassFile.FieldType.int)) ∈ lw_all := lw_g (lw_at lw_m14 32 rfl) rfl
theorem q3226 : (Jvm.Cond.methodLink "JumpHallModel" (143 : Nat) ({ cls := "JumpHallModel", name := "refuseBy", desc := "(IIIII)I" } : Jvm.MethodName)) ∈ lw_all := lw_g (lw_at lw_m14 33 rfl) rfl
theorem q3228 : (Jvm.Cond.instanceMethod ({ cls := "JumpHallModel", name := "refuseBy", desc := "(IIIII)I" } : Jvm.MethodName)) ∈ lw_all := lw_g (lw_at lw_m14 35 rfl) rfl
theorem q3229 : (Jvm.Cond.code ({ cls := "JumpHallModel", name := "refuseBy", desc := "(IIIII)I" } : Jvm.MethodName) prog_17_method_6_code (6 : Nat) (Option.some Jvm.ClassFile.FieldType.int)) ∈ lw_all := lw_g (lw_at lw_m14 36 rfl) rfl
theorem q3231 : (Jvm.Cond.instanceMethod ({ cls := "JumpHallModel", name := "down", desc := "(I)I" } : Jvm.MethodName)) ∈ lw_all := lw_g (lw_at lw_m14 38 rfl) rfl
theorem q3232 : (Jvm.Cond.selects "JumpHallModel" ({ cls := "JumpHallModel", name := "down", desc := "(I)I" } : Jvm.MethodName) ({ cls := "JumpHallModel", name := "down", desc := "(I)I" } : Jvm.MethodName)) ∈ lw_all := lw_g (lw_at lw_m14 39 rfl) rfl
theorem q3233 : (Jvm.Cond.code ({ cls := "JumpHallModel", name := "down", desc := "(I)I" } : Jvm.MethodName) prog_17_method_39_code (2 : Nat) (Option.some Jvm.ClassFile.FieldType.int)) ∈ lw_all := lw_g (lw_at lw_m14 40 rfl) rfl
theorem q3234 : (Jvm.Cond.methodLink "JumpHallModel" (150 : Nat) ({ cls := "JumpHallModel", name := "downIt", desc := "(I)I" } : Jvm.MethodName)) ∈ lw_all := lw_g (lw_at lw_m14 41 rfl) rfl
theorem q3236 : (Jvm.Cond.instanceMethod ({ cls := "JumpHallModel", name := "downIt", desc := "(I)I" } : Jvm.MethodName)) ∈ lw_all := lw_g (lw_at lw_m14 43 rfl) rfl
theorem q3237 : (Jvm.Cond.code ({ cls := "JumpHallModel", name := "downIt", desc := "(I)I" } : Jvm.MethodName) prog_17_method_38_code (4 : Nat) (Option.some Jvm.ClassFile.FieldType.int)) ∈ lw_all := lw_g (lw_at lw_m14 44 rfl) rfl
theorem q3239 : (Jvm.Cond.instanceMethod ({ cls := "JumpHallModel", name := "leave", desc := "(I)I" } : Jvm.MethodName)) ∈ lw_all := lw_g (lw_at lw_m14 46 rfl) rfl
theorem q3240 : (Jvm.Cond.selects "JumpHallModel" ({ cls := "JumpHallModel", name := "leave", desc := "(I)I" } : Jvm.MethodName) ({ cls := "JumpHallModel", name := "leave", desc := "(I)I" } : Jvm.MethodName)) ∈ lw_all := lw_g (lw_at lw_m14 47 rfl) rfl
theorem q3241 : (Jvm.Cond.code ({ cls := "JumpHallModel", name := "leave", desc := "(I)I" } : Jvm.MethodName) prog_17_method_41_code (2 : Nat) (Option.some Jvm.ClassFile.FieldType.int)) ∈ lw_all := lw_g (lw_at lw_m14 48 rfl) rfl
theorem q3242 : (Jvm.Cond.methodLink "JumpHallModel" (153 : Nat) ({ cls := "JumpHallModel", name := "jumpersAt", desc := "(I)I" } : Jvm.MethodName)) ∈ lw_all := lw_g (lw_at lw_m14 49 rfl) rfl
theorem q3244 : (Jvm.Cond.instanceMethod ({ cls := "JumpHallModel", name := "jumpersAt", desc := "(I)I" } : Jvm.MethodName)) ∈ lw_all := lw_g (lw_at lw_m14 51 rfl) rfl
theorem q3245 : (Jvm.Cond.code ({ cls := "JumpHallModel", name := "jumpersAt", desc := "(I)I" } : Jvm.MethodName) prog_17_method_40_code (4 : Nat) (Option.some Jvm.ClassFile.FieldType.int)) ∈ lw_all := lw_g (lw_at lw_m14 52 rfl) rfl
theorem q3247 : (Jvm.Cond.instanceMethod ({ cls := "JumpHallModel", name := "stock", desc := "(III)I" } : Jvm.MethodName)) ∈ lw_all := lw_g (lw_at lw_m14 54 rfl) rfl
theorem q3248 : (Jvm.Cond.selects "JumpHallModel" ({ cls := "JumpHallModel", name := "stock", desc := "(III)I" } : Jvm.MethodName) ({ cls := "JumpHallModel", name := "stock", desc := "(III)I" } : Jvm.MethodName)) ∈ lw_all := lw_g (lw_at lw_m14 55 rfl) rfl
theorem q3249 : (Jvm.Cond.code ({ cls := "JumpHallModel", name := "stock", desc := "(III)I" } : Jvm.MethodName) prog_17_method_42_code (5 : Nat) (Option.some Jvm.ClassFile.FieldType.int)) ∈ lw_all := lw_g (lw_at lw_m14 56 rfl) rfl
theorem q3250 : (Jvm.Cond.methodLink "JumpHallModel" (156 : Nat) ({ cls := "JumpHallModel", name := "isSock", desc := "(II)Z" } : Jvm.MethodName)) ∈ lw_all := lw_g (lw_at lw_m14 57 rfl) rfl
theorem q3251 : (Jvm.Cond.static ({ cls := "JumpHallModel", name := "isSock", desc := "(II)Z" } : Jvm.MethodName)) ∈ lw_all := lw_g (lw_at lw_m14 58 rfl) rfl
theorem q3252 : (Jvm.Cond.code ({ cls := "JumpHallModel", name := "isSock", desc := "(II)Z" } : Jvm.MethodName) prog_17_method_16_code (2 : Nat) (Option.some Jvm.ClassFile.FieldType.boolean)) ∈ lw_all := lw_g (lw_at lw_m14 59 rfl) rfl
theorem q3253 : (Jvm.Cond.constantLong "JumpHallModel" (77 : Nat) (2 : Int64)) ∈ lw_all := lw_g (lw_at lw_m14 60 rfl) rfl
theorem q3254 : (Jvm.Cond.methodLink "JumpHallModel" (159 : Nat) ({ cls := "java/lang/Math", name := "min", desc := "(II)I" } : Jvm.MethodName)) ∈ lw_all := lw_g (lw_at lw_m14 61 rfl) rfl
theorem q3256 : (Jvm.Cond.instanceMethod ({ cls := "JumpHallModel", name := "sell", desc := "(II)I" } : Jvm.MethodName)) ∈ lw_all := lw_g (lw_at lw_m14 63 rfl) rfl
theorem q3257 : (Jvm.Cond.selects "JumpHallModel" ({ cls := "JumpHallModel", name := "sell", desc := "(II)I" } : Jvm.MethodName) ({ cls := "JumpHallModel", name := "sell", desc := "(II)I" } : Jvm.MethodName)) ∈ lw_all := lw_g (lw_at lw_m14 64 rfl) rfl
theorem q3258 : (Jvm.Cond.code ({ cls := "JumpHallModel", name := "sell", desc := "(II)I" } : Jvm.MethodName) prog_17_method_45_code (3 : Nat) (Option.some Jvm.ClassFile.FieldType.int)) ∈ lw_all := lw_g (lw_at lw_m14 65 rfl) rfl
theorem q3259 : (Jvm.Cond.methodLink "JumpHallModel" (167 : Nat) ({ cls := "JumpHallModel", name := "sellIt", desc := "(II)I" } : Jvm.MethodName)) ∈ lw_all := lw_g (lw_at lw_m14 66 rfl) rfl
theorem q3261 : (Jvm.Cond.instanceMethod ({ cls := "JumpHallModel", name := "sellIt", desc := "(II)I" } : Jvm.MethodName)) ∈ lw_all := lw_g (lw_at lw_m14 68 rfl) rfl
theorem q3262 : (Jvm.Cond.code ({ cls := "JumpHallModel", name := "sellIt", desc := "(II)I" } : Jvm.MethodName) prog_17_method_44_code (5 : Nat) (Option.some Jvm.ClassFile.FieldType.int)) ∈ lw_all := lw_g (lw_at lw_m14 69 rfl) rfl
theorem q3263 : (Jvm.Cond.methodLink "JumpHallModel" (164 : Nat) ({ cls := "JumpHallModel", name := "ofSize", desc := "(II)I" } : Jvm.MethodName)) ∈ lw_all := lw_g (lw_at lw_m14 70 rfl) rfl
theorem q3265 : (Jvm.Cond.instanceMethod ({ cls := "JumpHallModel", name := "ofSize", desc := "(II)I" } : Jvm.MethodName)) ∈ lw_all := lw_g (lw_at lw_m14 72 rfl) rfl
theorem q3266 : (Jvm.Cond.code ({ cls := "JumpHallModel", name := "ofSize", desc := "(II)I" } : Jvm.MethodName) prog_17_method_43_code (3 : Nat) (Option.some Jvm.ClassFile.FieldType.int)) ∈ lw_all := lw_g (lw_at lw_m14 73 rfl) rfl
theorem q3268 : (Jvm.Cond.instanceMethod ({ cls := "JumpHallModel", name := "jumperOf", desc := "(II)I" } : Jvm.MethodName)) ∈ lw_all := lw_g (lw_at lw_m14 75 rfl) rfl
theorem q3269 : (Jvm.Cond.selects "JumpHallModel" ({ cls := "JumpHallModel", name := "jumperOf", desc := "(II)I" } : Jvm.MethodName) ({ cls := "JumpHallModel", name := "jumperOf", desc := "(II)I" } : Jvm.MethodName)) ∈ lw_all := lw_g (lw_at lw_m14 76 rfl) rfl
theorem q3270 : (Jvm.Cond.code ({ cls := "JumpHallModel", name := "jumperOf", desc := "(II)I" } : Jvm.MethodName) prog_17_method_46_code (3 : Nat) (Option.some Jvm.ClassFile.FieldType.int)) ∈ lw_all := lw_g (lw_at lw_m14 77 rfl) rfl
theorem q3271 : (Jvm.Cond.constantLong "JumpHallModel" (170 : Nat) (6 : Int64)) ∈ lw_all := lw_g (lw_at lw_m14 78 rfl) rfl
theorem q3273 : (Jvm.Cond.instanceMethod ({ cls := "JumpHallModel", name := "socks", desc := "(IIZ)I" } : Jvm.MethodName)) ∈ lw_all := lw_g (lw_at lw_m14 80 rfl) rfl
theorem q3274 : (Jvm.Cond.selects "JumpHallModel" ({ cls := "JumpHallModel", name := "socks", desc := "(IIZ)I" } : Jvm.MethodName) ({ cls := "JumpHallModel", name := "socks", desc := "(IIZ)I" } : Jvm.MethodName)) ∈ lw_all := lw_g (lw_at lw_m14 81 rfl) rfl
theorem q3275 : (Jvm.Cond.code ({ cls := "JumpHallModel", name := "socks", desc := "(IIZ)I" } : Jvm.MethodName) prog_17_method_47_code (4 : Nat) (Option.some Jvm.ClassFile.FieldType.int)) ∈ lw_all := lw_g (lw_at lw_m14 82 rfl) rfl
theorem q3277 : (Jvm.Cond.instanceMethod ({ cls := "JumpHallModel", name := "bestSize", desc := "()I" } : Jvm.MethodName)) ∈ lw_all := lw_g (lw_at lw_m14 84 rfl) rfl
theorem q3278 : (Jvm.Cond.selects "JumpHallModel" ({ cls := "JumpHallModel", name := "bestSize", desc := "()I" } : Jvm.MethodName) ({ cls := "JumpHallModel", name := "bestSize", desc := "()I" } : Jvm.MethodName)) ∈ lw_all := lw_g (lw_at lw_m14 85 rfl) rfl
theorem q3279 : (Jvm.Cond.code ({ cls := "JumpHallModel", name := "bestSize", desc := "()I" } : Jvm.MethodName) prog_17_method_48_code (3 : Nat) (Option.some Jvm.ClassFile.FieldType.int)) ∈ lw_all := lw_g (lw_at lw_m14 86 rfl) rfl
theorem q3281 : (Jvm.Cond.instanceMethod ({ cls := "JumpHallModel", name := "matFor", desc := "(I)I" } : Jvm.MethodName)) ∈ lw_all := lw_g (lw_at lw_m14 88 rfl) rfl
theorem q3282 : (Jvm.Cond.selects "JumpHallModel" ({ cls := "JumpHallModel", name := "matFor", desc := "(I)I" } : Jvm.MethodName) ({ cls := "JumpHallModel", name := "matFor", desc := "(I)I" } : Jvm.MethodName)) ∈ lw_all := lw_g (lw_at lw_m14 89 rfl) rfl
theorem q3283 : (Jvm.Cond.code ({ cls := "JumpHallModel", name := "matFor", desc := "(I)I" } : Jvm.MethodName) prog_17_method_49_code (3 : Nat) (Option.some Jvm.ClassFile.FieldType.int)) ∈ lw_all := lw_g (lw_at lw_m14 90 rfl) rfl
theorem q3285 : (Jvm.Cond.instanceMethod ({ cls := "JumpHallModel", name := "guard", desc := "()I" } : Jvm.MethodName)) ∈ lw_all := lw_g (lw_at lw_m14 92 rfl) rfl
theorem q3286 : (Jvm.Cond.selects "JumpHallModel" ({ cls := "JumpHallModel", name := "guard", desc := "()I" } : Jvm.MethodName) ({ cls := "JumpHallModel", name := "guard", desc := "()I" } : Jvm.MethodName)) ∈ lw_all := lw_g (lw_at lw_m14 93 rfl) rfl
theorem q3287 : (Jvm.Cond.code ({ cls := "JumpHallModel", name := "guard", desc := "()I" } : Jvm.MethodName) prog_17_method_50_code (1 : Nat) (Option.some Jvm.ClassFile.FieldType.int)) ∈ lw_all := lw_g (lw_at lw_m14 94 rfl) rfl
theorem q3289 : (Jvm.Cond.instanceMethod ({ cls := "JumpHallModel", name := "place", desc := "(II)I" } : Jvm.MethodName)) ∈ lw_all := lw_g (lw_at lw_m14 96 rfl) rfl
theorem q3290 : (Jvm.Cond.selects "JumpHallModel" ({ cls := "JumpHallModel", name := "place", desc := "(II)I" } : Jvm.MethodName) ({ cls := "JumpHallModel", name := "place", desc := "(II)I" } : Jvm.MethodName)) ∈ lw_all := lw_g (lw_at lw_m14 97 rfl) rfl
theorem q3291 : (Jvm.Cond.code ({ cls := "JumpHallModel", name := "place", desc := "(II)I" } : Jvm.MethodName) prog_17_method_52_code (3 : Nat) (Option.some Jvm.ClassFile.FieldType.int)) ∈ lw_all := lw_g (lw_at lw_m14 98 rfl) rfl
theorem q3292 : (Jvm.Cond.methodLink "JumpHallModel" (175 : Nat) ({ cls := "JumpHallModel", name := "placeIt", desc := "(II)I" } : Jvm.MethodName)) ∈ lw_all := lw_g (lw_at lw_m14 99 rfl) rfl
theorem q3294 : (Jvm.Cond.instanceMethod ({ cls := "JumpHallModel", name := "placeIt", desc := "(II)I" } : Jvm.MethodName)) ∈ lw_all := lw_g (lw_at lw_m14 101 rfl) rfl
theorem q3295 : (Jvm.Cond.code ({ cls := "JumpHallModel", name := "placeIt", desc := "(II)I" } : Jvm.MethodName) prog_17_method_51_code (4 : Nat) (Option.some Jvm.ClassFile.FieldType.int)) ∈ lw_all := lw_g (lw_at lw_m14 102 rfl) rfl
theorem q3296 : (Jvm.Cond.methodLink "JumpHallModel" (172 : Nat) ({ cls := "JumpHallModel", name := "isGuard", desc := "(I)Z" } : Jvm.MethodName)) ∈ lw_all := lw_g (lw_at lw_m14 103 rfl) rfl
theorem q3298 : (Jvm.Cond.instanceMethod ({ cls := "JumpHallModel", name := "isGuard", desc := "(I)Z" } : Jvm.MethodName)) ∈ lw_all := lw_g (lw_at lw_m14 105 rfl) rfl
theorem q3299 : (Jvm.Cond.code ({ cls := "JumpHallModel", name := "isGuard", desc := "(I)Z" } : Jvm.MethodName) prog_17_method_14_code (2 : Nat) (Option.some Jvm.ClassFile.FieldType.boolean)) ∈ lw_all := lw_g (lw_at lw_m14 106 rfl) rfl
theorem q3301 : (Jvm.Cond.instanceMethod ({ cls := "JumpHallModel", name := "at", desc := "(I)I" } : Jvm.MethodName)) ∈ lw_all := lw_g (lw_at lw_m14 108 rfl) rfl
theorem q3302 : (Jvm.Cond.selects "JumpHallModel" ({ cls := "JumpHallModel", name := "at", desc := "(I)I" } : Jvm.MethodName) ({ cls := "JumpHallModel", name := "at", desc := "(I)I" } : Jvm.MethodName)) ∈ lw_all := lw_g (lw_at lw_m14 109 rfl) rfl
theorem q3303 : (Jvm.Cond.code ({ cls := "JumpHallModel", name := "at", desc := "(I)I" } : Jvm.MethodName) prog_17_method_53_code (2 : Nat) (Option.some Jvm.ClassFile.FieldType.int)) ∈ lw_all := lw_g (lw_at lw_m14 110 rfl) rfl
theorem q3305 : (Jvm.Cond.instanceMethod ({ cls := "JumpHallModel", name := "book", desc := "(IIII)I" } : Jvm.MethodName)) ∈ lw_all := lw_g (lw_at lw_m14 112 rfl) rfl
theorem q3306 : (Jvm.Cond.selects "JumpHallModel" ({ cls := "JumpHallModel", name := "book", desc := "(IIII)I" } : Jvm.MethodName) ({ cls := "JumpHallModel", name := "book", desc := "(IIII)I" } : Jvm.MethodName)) ∈ lw_all := lw_g (lw_at lw_m14 113 rfl) rfl
theorem q3307 : (Jvm.Cond.code ({ cls := "JumpHallModel", name := "book", desc := "(IIII)I" } : Jvm.MethodName) prog_17_method_55_code (6 : Nat) (Option.some Jvm.ClassFile.FieldType.int)) ∈ lw_all := lw_g (lw_at lw_m14 114 rfl) rfl
theorem q3308 : (Jvm.Cond.constantLong "JumpHallModel" (181 : Nat) (9999 : Int64)) ∈ lw_all := lw_g (lw_at lw_m14 115 rfl) rfl
theorem q3309 : (Jvm.Cond.methodLink "JumpHallModel" (183 : Nat) ({ cls := "JumpHallModel", name := "partiesAt", desc := "(I)I" } : Jvm.MethodName)) ∈ lw_all := lw_g (lw_at lw_m14 116 rfl) rfl
theorem q3311 : (Jvm.Cond.instanceMethod ({ cls := "JumpHallModel", name := "partiesAt", desc := "(I)I" } : Jvm.MethodName)) ∈ lw_all := lw_g (lw_at lw_m14 118 rfl) rfl
theorem q3312 : (Jvm.Cond.code ({ cls := "JumpHallModel", name := "partiesAt", desc := "(I)I" } : Jvm.MethodName) prog_17_method_54_code (4 : Nat) (Option.some Jvm.ClassFile.FieldType.int)) ∈ lw_all := lw_g (lw_at lw_m14 119 rfl) rfl
theorem q3313 : (Jvm.Cond.methodLink "JumpHallModel" (178 : Nat) ({ cls := "JumpHallModel", name := "party", desc := "(I)I" } : Jvm.MethodName)) ∈ lw_all := lw_g (lw_at lw_m14 120 rfl) rfl
theorem q3314 : (Jvm.Cond.static ({ cls := "JumpHallModel", name := "party", desc := "(I)I" } : Jvm.MethodName)) ∈ lw_all := lw_g (lw_at lw_m14 121 rfl) rfl
theorem q3315 : (Jvm.Cond.code ({ cls := "JumpHallModel", name := "party", desc := "(I)I" } : Jvm.MethodName) prog_17_method_11_code (1 : Nat) (Option.some Jvm.ClassFile.FieldType.int)) ∈ lw_all := lw_g (lw_at lw_m14 122 rfl) rfl
theorem q3317 : (Jvm.Cond.instanceMethod ({ cls := "JumpHallModel", name := "cancel", desc := "(I)I" } : Jvm.MethodName)) ∈ lw_all := lw_g (lw_at lw_m14 124 rfl) rfl
theorem q3318 : (Jvm.Cond.selects "JumpHallModel" ({ cls := "JumpHallModel", name := "cancel", desc := "(I)I" } : Jvm.MethodName) ({ cls := "JumpHallModel", name := "cancel", desc := "(I)I" } : Jvm.MethodName)) ∈ lw_all := lw_g (lw_at lw_m14 125 rfl) rfl
theorem q3319 : (Jvm.Cond.code ({ cls := "JumpHallModel", name := "cancel", desc := "(I)I" } : Jvm.MethodName) prog_17_method_56_code (3 : Nat) (Option.some Jvm.ClassFile.FieldType.int)) ∈ lw_all := lw_g (lw_at lw_m14 126 rfl) rfl
theorem q3320 : (Jvm.Cond.methodLink "JumpHallModel" (186 : Nat) ({ cls := "JumpHallModel", name := "isParty", desc := "(I)Z" } : Jvm.MethodName)) ∈ lw_all := lw_g (lw_at lw_m14 127 rfl) rfl
theorem q3322 : (Jvm.Cond.instanceMethod ({ cls := "JumpHallModel", name := "isParty", desc := "(I)Z" } : Jvm.MethodName)) ∈ lw_all := lw_g (lw_at lw_m14 129 rfl) rfl
theorem q3323 : (Jvm.Cond.code ({ cls := "JumpHallModel", name := "isParty", desc := "(I)Z" } : Jvm.MethodName) prog_17_method_15_code (2 : Nat) (Option.some Jvm.ClassFile.FieldType.boolean)) ∈ lw_all := lw_g (lw_at lw_m14 130 rfl) rfl
theorem q3325 : (Jvm.Cond.instanceMethod ({ cls := "JumpHallModel", name := "partyOf", desc := "(II)I" } : Jvm.MethodName)) ∈ lw_all := lw_g (lw_at lw_m14 132 rfl) rfl
theorem q3326 : (Jvm.Cond.selects "JumpHallModel" ({ cls := "JumpHallModel", name := "partyOf", desc := "(II)I" } : Jvm.MethodName) ({ cls := "JumpHallModel", name := "partyOf", desc := "(II)I" } : Jvm.MethodName)) ∈ lw_all := lw_g (lw_at lw_m14 133 rfl) rfl
theorem q3327 : (Jvm.Cond.code ({ cls := "JumpHallModel", name := "partyOf", desc := "(II)I" } : Jvm.MethodName) prog_17_method_57_code (3 : Nat) (Option.some Jvm.ClassFile.FieldType.int)) ∈ lw_all := lw_g (lw_at lw_m14 134 rfl) rfl
theorem q3328 : (Jvm.Cond.constantLong "JumpHallModel" (189 : Nat) (3 : Int64)) ∈ lw_all := lw_g (lw_at lw_m14 135 rfl) rfl
theorem q3330 : (Jvm.Cond.instanceMethod ({ cls := "JumpHallModel", name := "nextParty", desc := "()I" } : Jvm.MethodName)) ∈ lw_all := lw_g (lw_at lw_m14 137 rfl) rfl
theorem q3331 : (Jvm.Cond.selects "JumpHallModel" ({ cls := "JumpHallModel", name := "nextParty", desc := "()I" } : Jvm.MethodName) ({ cls := "JumpHallModel", name := "nextParty", desc := "()I" } : Jvm.MethodName)) ∈ lw_all := lw_g (lw_at lw_m14 138 rfl) rfl
theorem q3332 : (Jvm.Cond.code ({ cls := "JumpHallModel", name := "nextParty", desc := "()I" } : Jvm.MethodName) prog_17_method_58_code (4 : Nat) (Option.some Jvm.ClassFile.FieldType.int)) ∈ lw_all := lw_g (lw_at lw_m14 139 rfl) rfl
theorem q3334 : (Jvm.Cond.instanceMethod ({ cls := "JumpHallModel", name := "pass", desc := "(I)I" } : Jvm.MethodName)) ∈ lw_all := lw_g (lw_at lw_m14 141 rfl) rfl
theorem q3335 : (Jvm.Cond.selects "JumpHallModel" ({ cls := "JumpHallModel", name := "pass", desc := "(I)I" } : Jvm.MethodName) ({ cls := "JumpHallModel", name := "pass", desc := "(I)I" } : Jvm.MethodName)) ∈ lw_all := lw_g (lw_at lw_m14 142 rfl) rfl
theorem q3336 : (Jvm.Cond.code ({ cls := "JumpHallModel", name := "pass", desc := "(I)I" } : Jvm.MethodName) prog_17_method_64_code (2 : Nat) (Option.some Jvm.ClassFile.FieldType.int)) ∈ lw_all := lw_g (lw_at lw_m14 143 rfl) rfl
theorem q3337 : (Jvm.Cond.methodLink "JumpHallModel" (207 : Nat) ({ cls := "JumpHallModel", name := "passIt", desc := "(I)I" } : Jvm.MethodName)) ∈ lw_all := lw_g (lw_at lw_m14 144 rfl) rfl
theorem q3339 : (Jvm.Cond.instanceMethod ({ cls := "JumpHallModel", name := "passIt", desc := "(I)I" } : Jvm.MethodName)) ∈ lw_all := lw_g (lw_at lw_m14 146 rfl) rfl
theorem q3340 : (Jvm.Cond.code ({ cls := "JumpHallModel", name := "passIt", desc := "(I)I" } : Jvm.MethodName) prog_17_method_63_code (4 : Nat) (Option.some Jvm.ClassFile.FieldType.int)) ∈ lw_all := lw_g (lw_at lw_m14 147 rfl) rfl
theorem q3341 : (Jvm.Cond.constantLong "JumpHallModel" (201 : Nat) (60 : Int64)) ∈ lw_all := lw_g (lw_at lw_m14 148 rfl) rfl
theorem q3342 : (Jvm.Cond.methodLink "JumpHallModel" (203 : Nat) ({ cls := "JumpHallModel", name := "minuteGoes", desc := "()I" } : Jvm.MethodName)) ∈ lw_all := lw_g (lw_at lw_m14 149 rfl) rfl
theorem q3344 : (Jvm.Cond.instanceMethod ({ cls := "JumpHallModel", name := "minuteGoes", desc := "()I" } : Jvm.MethodName)) ∈ lw_all := lw_g (lw_at lw_m14 151 rfl) rfl
theorem q3345 : (Jvm.Cond.code ({ cls := "JumpHallModel", name := "minuteGoes", desc := "()I" } : Jvm.MethodName) prog_17_method_62_code (3 : Nat) (Option.some Jvm.ClassFile.FieldType.int)) ∈ lw_all := lw_g (lw_at lw_m14 152 rfl) rfl
theorem q3346 : (Jvm.Cond.methodLink "JumpHallModel" (191 : Nat) ({ cls := "JumpHallModel", name := "jumps", desc := "(I)V" } : Jvm.MethodName)) ∈ lw_all := lw_g (lw_at lw_m14 153 rfl) rfl
theorem q3348 : (Jvm.Cond.instanceMethod ({ cls := "JumpHallModel", name := "jumps", desc := "(I)V" } : Jvm.MethodName)) ∈ lw_all := lw_g (lw_at lw_m14 155 rfl) rfl
theorem q3349 : (Jvm.Cond.code ({ cls := "JumpHallModel", name := "jumps", desc := "(I)V" } : Jvm.MethodName) prog_17_method_59_code (5 : Nat) (Option.none : Option Jvm.ClassFile.FieldType)) ∈ lw_all := lw_g (lw_at lw_m14 156 rfl) rfl
theorem q3350 : (Jvm.Cond.methodLink "JumpHallModel" (195 : Nat) ({ cls := "JumpHallModel", name := "sinks", desc := "(I)I" } : Jvm.MethodName)) ∈ lw_all := lw_g (lw_at lw_m14 157 rfl) rfl
theorem q3352 : (Jvm.Cond.instanceMethod ({ cls := "JumpHallModel", name := "sinks", desc := "(I)I" } : Jvm.MethodName)) ∈ lw_all := lw_g (lw_at lw_m14 159 rfl) rfl
theorem q3353 : (Jvm.Cond.code ({ cls := "JumpHallModel", name := "sinks", desc := "(I)I" } : Jvm.MethodName) prog_17_method_60_code (4 : Nat) (Option.some Jvm.ClassFile.FieldType.int)) ∈ lw_all := lw_g (lw_at lw_m14 160 rfl) rfl
theorem q3354 : (Jvm.Cond.methodLink "JumpHallModel" (198 : Nat) ({ cls := "JumpHallModel", name := "partyComes", desc := "(I)V" } : Jvm.MethodName)) ∈ lw_all := lw_g (lw_at lw_m14 161 rfl) rfl
theorem q3356 : (Jvm.Cond.instanceMethod ({ cls := "JumpHallModel", name := "partyComes", desc := "(I)V" } : Jvm.MethodName)) ∈ lw_all := lw_g (lw_at lw_m14 163 rfl) rfl
theorem q3357 : (Jvm.Cond.code ({ cls := "JumpHallModel", name := "partyComes", desc := "(I)V" } : Jvm.MethodName) prog_17_method_61_code (4 : Nat) (Option.none : Option Jvm.ClassFile.FieldType)) ∈ lw_all := lw_g (lw_at lw_m14 164 rfl) rfl
theorem q3359 : (Jvm.Cond.instanceMethod ({ cls := "JumpHallModel", name := "lasts", desc := "(I)I" } : Jvm.MethodName)) ∈ lw_all := lw_g (lw_at lw_m14 166 rfl) rfl
theorem q3360 : (Jvm.Cond.selects "JumpHallModel" ({ cls := "JumpHallModel", name := "lasts", desc := "(I)I" } : Jvm.MethodName) ({ cls := "JumpHallModel", name := "lasts", desc := "(I)I" } : Jvm.MethodName)) ∈ lw_all := lw_g (lw_at lw_m14 167 rfl) rfl
theorem q3361 : (Jvm.Cond.code ({ cls := "JumpHallModel", name := "lasts", desc := "(I)I" } : Jvm.MethodName) prog_17_method_65_code (4 : Nat) (Option.some Jvm.ClassFile.FieldType.int)) ∈ lw_all := lw_g (lw_at lw_m14 168 rfl) rfl
theorem q3363 : (Jvm.Cond.instanceMethod ({ cls := "JumpHallModel", name := "tell", desc := "(I)I" } : Jvm.MethodName)) ∈ lw_all := lw_g (lw_at lw_m14 170 rfl) rfl
theorem q3364 : (Jvm.Cond.selects "JumpHallModel" ({ cls := "JumpHallModel", name := "tell", desc := "(I)I" } : Jvm.MethodName) ({ cls := "JumpHallModel", name := "tell", desc := "(I)I" } : Jvm.MethodName)) ∈ lw_all := lw_g (lw_at lw_m14 171 rfl) rfl
theorem q3365 : (Jvm.Cond.code ({ cls := "JumpHallModel", name := "tell", desc := "(I)I" } : Jvm.MethodName) prog_17_method_67_code (3 : Nat) (Option.some Jvm.ClassFile.FieldType.int)) ∈ lw_all := lw_g (lw_at lw_m14 172 rfl) rfl
theorem q3366 : (Jvm.Cond.methodLink "JumpHallModel" (213 : Nat) ({ cls := "JumpHallModel", name := "sign", desc := "(I)V" } : Jvm.MethodName)) ∈ lw_all := lw_g (lw_at lw_m14 173 rfl) rfl
theorem q3368 : (Jvm.Cond.instanceMethod ({ cls := "JumpHallModel", name := "sign", desc := "(I)V" } : Jvm.MethodName)) ∈ lw_all := lw_g (lw_at lw_m14 175 rfl) rfl
theorem q3369 : (Jvm.Cond.code ({ cls := "JumpHallModel", name := "sign", desc := "(I)V" } : Jvm.MethodName) prog_17_method_66_code (2 : Nat) (Option.none : Option Jvm.ClassFile.FieldType)) ∈ lw_all := lw_g (lw_at lw_m14 176 rfl) rfl
theorem q3371 : (Jvm.Cond.instanceMethod ({ cls := "JumpHallModel", name := "character", desc := "(I)C" } : Jvm.MethodName)) ∈ lw_all := lw_g (lw_at lw_m14 178 rfl) rfl
theorem q3372 : (Jvm.Cond.selects "JumpHallModel" ({ cls := "JumpHallModel", name := "character", desc := "(I)C" } : Jvm.MethodName) ({ cls := "JumpHallModel", name := "character", desc := "(I)C" } : Jvm.MethodName)) ∈ lw_all := lw_g (lw_at lw_m14 179 rfl) rfl
theorem q3373 : (Jvm.Cond.code ({ cls := "JumpHallModel", name := "character", desc := "(I)C" } : Jvm.MethodName) prog_17_method_68_code (2 : Nat) (Option.some Jvm.ClassFile.FieldType.char)) ∈ lw_all := lw_g (lw_at lw_m14 180 rfl) rfl
theorem q3375 : (Jvm.Cond.instanceMethod ({ cls := "JumpHallModel", name := "meanWeight", desc := "()F" } : Jvm.MethodName)) ∈ lw_all := lw_g (lw_at lw_m14 182 rfl) rfl
theorem q3376 : (Jvm.Cond.selects "JumpHallModel" ({ cls := "JumpHallModel", name := "meanWeight", desc := "()F" } : Jvm.MethodName) ({ cls := "JumpHallModel", name := "meanWeight", desc := "()F" } : Jvm.MethodName)) ∈ lw_all := lw_g (lw_at lw_m14 183 rfl) rfl
theorem q3377 : (Jvm.Cond.code ({ cls := "JumpHallModel", name := "meanWeight", desc := "()F" } : Jvm.MethodName) prog_17_method_69_code (5 : Nat) (Option.some Jvm.ClassFile.FieldType.float)) ∈ lw_all := lw_g (lw_at lw_m14 184 rfl) rfl
theorem q3379 : (Jvm.Cond.instanceMethod ({ cls := "JumpHallModel", name := "brokenShare", desc := "()D" } : Jvm.MethodName)) ∈ lw_all := lw_g (lw_at lw_m14 186 rfl) rfl
theorem q3380 : (Jvm.Cond.selects "JumpHallModel" ({ cls := "JumpHallModel", name := "brokenShare", desc := "()D" } : Jvm.MethodName) ({ cls := "JumpHallModel", name := "brokenShare", desc := "()D" } : Jvm.MethodName)) ∈ lw_all := lw_g (lw_at lw_m14 187 rfl) rfl
theorem q3381 : (Jvm.Cond.code ({ cls := "JumpHallModel", name := "brokenShare", desc := "()D" } : Jvm.MethodName) prog_17_method_71_code (1 : Nat) (Option.some Jvm.ClassFile.FieldType.double)) ∈ lw_all := lw_g (lw_at lw_m14 188 rfl) rfl
theorem q3382 : (Jvm.Cond.methodLink "JumpHallModel" (216 : Nat) ({ cls := "JumpHallModel", name := "allBroken", desc := "()I" } : Jvm.MethodName)) ∈ lw_all := lw_g (lw_at lw_m14 189 rfl) rfl
theorem q3384 : (Jvm.Cond.instanceMethod ({ cls := "JumpHallModel", name := "allBroken", desc := "()I" } : Jvm.MethodName)) ∈ lw_all := lw_g (lw_at lw_m14 191 rfl) rfl
theorem q3385 : (Jvm.Cond.code ({ cls := "JumpHallModel", name := "allBroken", desc := "()I" } : Jvm.MethodName) prog_17_method_70_code (3 : Nat) (Option.some Jvm.ClassFile.FieldType.int)) ∈ lw_all := lw_g (lw_at lw_m14 192 rfl) rfl
theorem q3387 : (Jvm.Cond.instanceMethod ({ cls := "JumpHallModel", name := "account", desc := "(I)I" } : Jvm.MethodName)) ∈ lw_all := lw_g (lw_at lw_m14 194 rfl) rfl
theorem q3388 : (Jvm.Cond.selects "JumpHallModel" ({ cls := "JumpHallModel", name := "account", desc := "(I)I" } : Jvm.MethodName) ({ cls := "JumpHallModel", name := "account", desc := "(I)I" } : Jvm.MethodName)) ∈ lw_all := lw_g (lw_at lw_m14 195 rfl) rfl
theorem q3389 : (Jvm.Cond.code ({ cls := "JumpHallModel", name := "account", desc := "(I)I" } : Jvm.MethodName) prog_17_method_75_code (2 : Nat) (Option.some Jvm.ClassFile.FieldType.int)) ∈ lw_all := lw_g (lw_at lw_m14 196 rfl) rfl
theorem q3390 : (Jvm.Cond.methodLink "JumpHallModel" (219 : Nat) ({ cls := "JumpHallModel", name := "openMats", desc := "()I" } : Jvm.MethodName)) ∈ lw_all := lw_g (lw_at lw_m14 197 rfl) rfl
theorem q3392 : (Jvm.Cond.instanceMethod ({ cls := "JumpHallModel", name := "openMats", desc := "()I" } : Jvm.MethodName)) ∈ lw_all := lw_g (lw_at lw_m14 199 rfl) rfl
theorem q3393 : (Jvm.Cond.code ({ cls := "JumpHallModel", name := "openMats", desc := "()I" } : Jvm.MethodName) prog_17_method_72_code (3 : Nat) (Option.some Jvm.ClassFile.FieldType.int)) ∈ lw_all := lw_g (lw_at lw_m14 200 rfl) rfl
theorem q3394 : (Jvm.Cond.methodLink "JumpHallModel" (222 : Nat) ({ cls := "JumpHallModel", name := "withSocks", desc := "()I" } : Jvm.MethodName)) ∈ lw_all := lw_g (lw_at lw_m14 201 rfl) rfl
theorem q3396 : (Jvm.Cond.instanceMethod ({ cls := "JumpHallModel", name := "withSocks", desc := "()I" } : Jvm.MethodName)) ∈ lw_all := lw_g (lw_at lw_m14 203 rfl) rfl
theorem q3397 : (Jvm.Cond.code ({ cls := "JumpHallModel", name := "withSocks", desc := "()I" } : Jvm.MethodName) prog_17_method_73_code (3 : Nat) (Option.some Jvm.ClassFile.FieldType.int)) ∈ lw_all := lw_g (lw_at lw_m14 204 rfl) rfl
theorem q3398 : (Jvm.Cond.methodLink "JumpHallModel" (225 : Nat) ({ cls := "JumpHallModel", name := "pairs", desc := "(I)I" } : Jvm.MethodName)) ∈ lw_all := lw_g (lw_at lw_m14 205 rfl) rfl
theorem q3400 : (Jvm.Cond.instanceMethod ({ cls := "JumpHallModel", name := "pairs", desc := "(I)I" } : Jvm.MethodName)) ∈ lw_all := lw_g (lw_at lw_m14 207 rfl) rfl
theorem q3401 : (Jvm.Cond.code ({ cls := "JumpHallModel", name := "pairs", desc := "(I)I" } : Jvm.MethodName) prog_17_method_74_code (4 : Nat) (Option.some Jvm.ClassFile.FieldType.int)) ∈ lw_all := lw_g (lw_at lw_m14 208 rfl) rfl
theorem q3403 : (Jvm.Cond.instanceMethod ({ cls := "JumpHallModel", name := "append", desc := "(C)I" } : Jvm.MethodName)) ∈ lw_all := lw_g (lw_at lw_m14 210 rfl) rfl
theorem q3404 : (Jvm.Cond.selects "JumpHallModel" ({ cls := "JumpHallModel", name := "append", desc := "(C)I" } : Jvm.MethodName) ({ cls := "JumpHallModel", name := "append", desc := "(C)I" } : Jvm.MethodName)) ∈ lw_all := lw_g (lw_at lw_m14 211 rfl) rfl
theorem q3405 : (Jvm.Cond.code ({ cls := "JumpHallModel", name := "append", desc := "(C)I" } : Jvm.MethodName) prog_17_method_76_code (2 : Nat) (Option.some Jvm.ClassFile.FieldType.int)) ∈ lw_all := lw_g (lw_at lw_m14 212 rfl) rfl
theorem q3406 : (Jvm.Cond.constantLong "JumpHallModel" (231 : Nat) (32 : Int64)) ∈ lw_all := lw_g (lw_at lw_m14 213 rfl) rfl
theorem q3407 : (Jvm.Cond.constantLong "JumpHallModel" (233 : Nat) (126 : Int64)) ∈ lw_all := lw_g (lw_at lw_m14 214 rfl) rfl
theorem q3409 : (Jvm.Cond.instanceMethod ({ cls := "JumpHallModel", name := "read", desc := "()I" } : Jvm.MethodName)) ∈ lw_all := lw_g (lw_at lw_m14 216 rfl) rfl
theorem q3410 : (Jvm.Cond.selects "JumpHallModel" ({ cls := "JumpHallModel", name := "read", desc := "()I" } : Jvm.MethodName) ({ cls := "JumpHallModel", name := "read", desc := "()I" } : Jvm.MethodName)) ∈ lw_all := lw_g (lw_at lw_m14 217 rfl) rfl
theorem q3411 : (Jvm.Cond.code ({ cls := "JumpHallModel", name := "read", desc := "()I" } : Jvm.MethodName) prog_17_method_86_code (5 : Nat) (Option.some Jvm.ClassFile.FieldType.int)) ∈ lw_all := lw_g (lw_at lw_m14 218 rfl) rfl
theorem q3412 : (Jvm.Cond.methodLink "JumpHallModel" (267 : Nat) ({ cls := "JumpHallModel", name := "readCommand", desc := "()V" } : Jvm.MethodName)) ∈ lw_all := lw_g (lw_at lw_m14 219 rfl) rfl
theorem q3414 : (Jvm.Cond.instanceMethod ({ cls := "JumpHallModel", name := "readCommand", desc := "()V" } : Jvm.MethodName)) ∈ lw_all := lw_g (lw_at lw_m14 221 rfl) rfl
theorem q3415 : (Jvm.Cond.code ({ cls := "JumpHallModel", name := "readCommand", desc := "()V" } : Jvm.MethodName) prog_17_method_82_code (4 : Nat) (Option.none : Option Jvm.ClassFile.FieldType)) ∈ lw_all := lw_g (lw_at lw_m14 222 rfl) rfl
theorem q3416 : (Jvm.Cond.methodLink "JumpHallModel" (258 : Nat) ({ cls := "JumpHallModel", name := "wordHere", desc := "()I" } : Jvm.MethodName)) ∈ lw_all := lw_g (lw_at lw_m14 223 rfl) rfl
theorem q3418 : (Jvm.Cond.instanceMethod ({ cls := "JumpHallModel", name := "wordHere", desc := "()I" } : Jvm.MethodName)) ∈ lw_all := lw_g (lw_at lw_m14 225 rfl) rfl
theorem q3419 : (Jvm.Cond.code ({ cls := "JumpHallModel", name := "wordHere", desc := "()I" } : Jvm.MethodName) prog_17_method_81_code (3 : Nat) (Option.some Jvm.ClassFile.FieldType.int)) ∈ lw_all := lw_g (lw_at lw_m14 226 rfl) rfl
theorem q3420 : (Jvm.Cond.methodLink "JumpHallModel" (245 : Nat) ({ cls := "JumpHallModel", name := "here", desc := "()I" } : Jvm.MethodName)) ∈ lw_all := lw_g (lw_at lw_m14 227 rfl) rfl
theorem q3422 : (Jvm.Cond.instanceMethod ({ cls := "JumpHallModel", name := "here", desc := "()I" } : Jvm.MethodName)) ∈ lw_all := lw_g (lw_at lw_m14 229 rfl) rfl
theorem q3423 : (Jvm.Cond.code ({ cls := "JumpHallModel", name := "here", desc := "()I" } : Jvm.MethodName) prog_17_method_77_code (1 : Nat) (Option.some Jvm.ClassFile.FieldType.int)) ∈ lw_all := lw_g (lw_at lw_m14 230 rfl) rfl
theorem q3424 : (Jvm.Cond.methodLink "JumpHallModel" (261 : Nat) ({ cls := "JumpHallModel", name := "expects", desc := "(I)V" } : Jvm.MethodName)) ∈ lw_all := lw_g (lw_at lw_m14 231 rfl) rfl
theorem q3426 : (Jvm.Cond.instanceMethod ({ cls := "JumpHallModel", name := "expects", desc := "(I)V" } : Jvm.MethodName)) ∈ lw_all := lw_g (lw_at lw_m14 233 rfl) rfl
theorem q3427 : (Jvm.Cond.code ({ cls := "JumpHallModel", name := "expects", desc := "(I)V" } : Jvm.MethodName) prog_17_method_78_code (2 : Nat) (Option.none : Option Jvm.ClassFile.FieldType)) ∈ lw_all := lw_g (lw_at lw_m14 234 rfl) rfl
theorem q3428 : (Jvm.Cond.methodLink "JumpHallModel" (264 : Nat) ({ cls := "JumpHallModel", name := "number", desc := "()I" } : Jvm.MethodName)) ∈ lw_all := lw_g (lw_at lw_m14 235 rfl) rfl
theorem q3430 : (Jvm.Cond.instanceMethod ({ cls := "JumpHallModel", name := "number", desc := "()I" } : Jvm.MethodName)) ∈ lw_all := lw_g (lw_at lw_m14 237 rfl) rfl
theorem q3431 : (Jvm.Cond.code ({ cls := "JumpHallModel", name := "number", desc := "()I" } : Jvm.MethodName) prog_17_method_80_code (2 : Nat) (Option.some Jvm.ClassFile.FieldType.int)) ∈ lw_all := lw_g (lw_at lw_m14 238 rfl) rfl
theorem q3432 : (Jvm.Cond.methodLink "JumpHallModel" (252 : Nat) ({ cls := "JumpHallModel", name := "digit", desc := "()I" } : Jvm.MethodName)) ∈ lw_all := lw_g (lw_at lw_m14 239 rfl) rfl
theorem q3434 : (Jvm.Cond.instanceMethod ({ cls := "JumpHallModel", name := "digit", desc := "()I" } : Jvm.MethodName)) ∈ lw_all := lw_g (lw_at lw_m15 1 rfl) rfl
theorem q3435 : (Jvm.Cond.code ({ cls := "JumpHallModel", name := "digit", desc := "()I" } : Jvm.MethodName) prog_17_method_79_code (2 : Nat) (Option.some Jvm.ClassFile.FieldType.int)) ∈ lw_all := lw_g (lw_at lw_m15 2 rfl) rfl
theorem q3436 : (Jvm.Cond.constantLong "JumpHallModel" (248 : Nat) (48 : Int64)) ∈ lw_all := lw_g (lw_at lw_m15 3 rfl) rfl
theorem q3437 : (Jvm.Cond.constantLong "JumpHallModel" (250 : Nat) (57 : Int64)) ∈ lw_all := lw_g (lw_at lw_m15 4 rfl) rfl
theorem q3438 : (Jvm.Cond.methodLink "JumpHallModel" (270 : Nat) ({ cls := "JumpHallModel", name := "does", desc := "(I)I" } : Jvm.MethodName)) ∈ lw_all := lw_g (lw_at lw_m15 5 rfl) rfl
theorem q3440 : (Jvm.Cond.instanceMethod ({ cls := "JumpHallModel", name := "does", desc := "(I)I" } : Jvm.MethodName)) ∈ lw_all := lw_g (lw_at lw_m15 7 rfl) rfl
theorem q3441 : (Jvm.Cond.code ({ cls := "JumpHallModel", name := "does", desc := "(I)I" } : Jvm.MethodName) prog_17_method_83_code (4 : Nat) (Option.some Jvm.ClassFile.FieldType.int)) ∈ lw_all := lw_g (lw_at lw_m15 8 rfl) rfl
theorem q3442 : (Jvm.Cond.methodLink "JumpHallModel" (273 : Nat) ({ cls := "JumpHallModel", name := "refusedAt", desc := "(I)I" } : Jvm.MethodName)) ∈ lw_all := lw_g (lw_at lw_m15 9 rfl) rfl
theorem q3443 : (Jvm.Cond.static ({ cls := "JumpHallModel", name := "refusedAt", desc := "(I)I" } : Jvm.MethodName)) ∈ lw_all := lw_g (lw_at lw_m15 10 rfl) rfl
theorem q3444 : (Jvm.Cond.code ({ cls := "JumpHallModel", name := "refusedAt", desc := "(I)I" } : Jvm.MethodName) prog_17_method_84_code (1 : Nat) (Option.some Jvm.ClassFile.FieldType.int)) ∈ lw_all := lw_g (lw_at lw_m15 11 rfl) rfl
theorem q3445 : (Jvm.Cond.methodLink "JumpHallModel" (276 : Nat) ({ cls := "JumpHallModel", name := "refusesAll", desc := "(IZ)I" } : Jvm.MethodName)) ∈ lw_all := lw_g (lw_at lw_m15 12 rfl) rfl
theorem q3447 : (Jvm.Cond.instanceMethod ({ cls := "JumpHallModel", name := "refusesAll", desc := "(IZ)I" } : Jvm.MethodName)) ∈ lw_all := lw_g (lw_at lw_m15 14 rfl) rfl
theorem q3448 : (Jvm.Cond.code ({ cls := "JumpHallModel", name := "refusesAll", desc := "(IZ)I" } : Jvm.MethodName) prog_17_method_85_code (4 : Nat) (Option.some Jvm.ClassFile.FieldType.int)) ∈ lw_all := lw_g (lw_at lw_m15 15 rfl) rfl
theorem q3450 : (Jvm.Cond.instanceMethod ({ cls := "JumpHallModel", name := "errorPosition", desc := "()I" } : Jvm.MethodName)) ∈ lw_all := lw_g (lw_at lw_m15 17 rfl) rfl
theorem q3451 : (Jvm.Cond.selects "JumpHallModel" ({ cls := "JumpHallModel", name := "errorPosition", desc := "()I" } : Jvm.MethodName) ({ cls := "JumpHallModel", name := "errorPosition", desc := "()I" } : Jvm.MethodName)) ∈ lw_all := lw_g (lw_at lw_m15 18 rfl) rfl
theorem q3452 : (Jvm.Cond.code ({ cls := "JumpHallModel", name := "errorPosition", desc := "()I" } : Jvm.MethodName) prog_17_method_87_code (1 : Nat) (Option.some Jvm.ClassFile.FieldType.int)) ∈ lw_all := lw_g (lw_at lw_m15 19 rfl) rfl
theorem q3454 : (Jvm.Cond.instanceMethod ({ cls := "JumpHallModel", name := "reason", desc := "(IZ)I" } : Jvm.MethodName)) ∈ lw_all := lw_g (lw_at lw_m15 21 rfl) rfl
theorem q3455 : (Jvm.Cond.selects "JumpHallModel" ({ cls := "JumpHallModel", name := "reason", desc := "(IZ)I" } : Jvm.MethodName) ({ cls := "JumpHallModel", name := "reason", desc := "(IZ)I" } : Jvm.MethodName)) ∈ lw_all := lw_g (lw_at lw_m15 22 rfl) rfl
theorem q3456 : (Jvm.Cond.code ({ cls := "JumpHallModel", name := "reason", desc := "(IZ)I" } : Jvm.MethodName) prog_17_method_88_code (3 : Nat) (Option.some Jvm.ClassFile.FieldType.int)) ∈ lw_all := lw_g (lw_at lw_m15 23 rfl) rfl
theorem q3458 : (Jvm.Cond.instanceMethod ({ cls := "JumpHallModel", name := "undo", desc := "()I" } : Jvm.MethodName)) ∈ lw_all := lw_g (lw_at lw_m15 25 rfl) rfl
theorem q3459 : (Jvm.Cond.selects "JumpHallModel" ({ cls := "JumpHallModel", name := "undo", desc := "()I" } : Jvm.MethodName) ({ cls := "JumpHallModel", name := "undo", desc := "()I" } : Jvm.MethodName)) ∈ lw_all := lw_g (lw_at lw_m15 26 rfl) rfl
theorem q3460 : (Jvm.Cond.code ({ cls := "JumpHallModel", name := "undo", desc := "()I" } : Jvm.MethodName) prog_17_method_89_code (2 : Nat) (Option.some Jvm.ClassFile.FieldType.int)) ∈ lw_all := lw_g (lw_at lw_m15 27 rfl) rfl
theorem q3462 : (Jvm.Cond.instanceMethod ({ cls := "JumpHallModel", name := "save", desc := "()I" } : Jvm.MethodName)) ∈ lw_all := lw_g (lw_at lw_m15 29 rfl) rfl
theorem q3463 : (Jvm.Cond.selects "JumpHallModel" ({ cls := "JumpHallModel", name := "save", desc := "()I" } : Jvm.MethodName) ({ cls := "JumpHallModel", name := "save", desc := "()I" } : Jvm.MethodName)) ∈ lw_all := lw_g (lw_at lw_m15 30 rfl) rfl
theorem q3464 : (Jvm.Cond.code ({ cls := "JumpHallModel", name := "save", desc := "()I" } : Jvm.MethodName) prog_17_method_90_code (2 : Nat) (Option.some Jvm.ClassFile.FieldType.int)) ∈ lw_all := lw_g (lw_at lw_m15 31 rfl) rfl
theorem q3466 : (Jvm.Cond.instanceMethod ({ cls := "JumpHallModel", name := "restore", desc := "()I" } : Jvm.MethodName)) ∈ lw_all := lw_g (lw_at lw_m15 33 rfl) rfl
theorem q3467 : (Jvm.Cond.selects "JumpHallModel" ({ cls := "JumpHallModel", name := "restore", desc := "()I" } : Jvm.MethodName) ({ cls := "JumpHallModel", name := "restore", desc := "()I" } : Jvm.MethodName)) ∈ lw_all := lw_g (lw_at lw_m15 34 rfl) rfl
theorem q3468 : (Jvm.Cond.code ({ cls := "JumpHallModel", name := "restore", desc := "()I" } : Jvm.MethodName) prog_17_method_91_code (2 : Nat) (Option.some Jvm.ClassFile.FieldType.int)) ∈ lw_all := lw_g (lw_at lw_m15 35 rfl) rfl
theorem q3508 : (Jvm.Cond.castable "JumpHallModel" "java/lang/Object") ∈ lw_tbl := lw_at lw_m15 75 rfl
