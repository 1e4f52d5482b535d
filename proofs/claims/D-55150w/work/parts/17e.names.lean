set_option maxRecDepth 100000
/-! java/lang/Throwable -/
def RJ9 : String := "java/lang/Throwable"
abbrev cJ9_init : ByteArray := prog_46_method_1_code
def yJ9_init : MethodName := ⟨RJ9, "<init>", "()V"⟩
def dkwJ9_init_1 : List UInt8 := [182, 0, 27, 87, 177]
abbrev dktJ9_init_1 : List UInt8 := dkwJ9_init_1 ++ []
def dkwJ9_init_0 : List UInt8 := [42, 183, 0, 1, 42, 42, 181, 0, 7, 42, 178, 0, 13, 181, 0, 17, 42, 178, 0, 20, 181, 0, 24, 42]
abbrev dktJ9_init_0 : List UInt8 := dkwJ9_init_0 ++ dktJ9_init_1
theorem dksJ9_init_0 : cJ9_init.data.toList.drop 0 = dktJ9_init_0 := by decide +kernel
theorem dksJ9_init_1 : cJ9_init.data.toList.drop 24 = dktJ9_init_1 := dk_seg dksJ9_init_0 24 rfl rfl
theorem dJ9_init_0 : decode cJ9_init 0 = .ok (.aload_n 0, 1) := dk_42 (dk_at dksJ9_init_0 0 rfl rfl)
theorem dJ9_init_1 : decode cJ9_init 1 = .ok (.invokespecial 1, 3) := dk_183 0 1 (dk_at dksJ9_init_0 1 rfl rfl)
theorem dJ9_init_4 : decode cJ9_init 4 = .ok (.aload_n 0, 1) := dk_42 (dk_at dksJ9_init_0 4 rfl rfl)
theorem dJ9_init_5 : decode cJ9_init 5 = .ok (.aload_n 0, 1) := dk_42 (dk_at dksJ9_init_0 5 rfl rfl)
theorem dJ9_init_6 : decode cJ9_init 6 = .ok (.putfield 7, 3) := dk_181 0 7 (dk_at dksJ9_init_0 6 rfl rfl)
theorem dJ9_init_9 : decode cJ9_init 9 = .ok (.aload_n 0, 1) := dk_42 (dk_at dksJ9_init_0 9 rfl rfl)
theorem dJ9_init_10 : decode cJ9_init 10 = .ok (.getstatic 13, 3) := dk_178 0 13 (dk_at dksJ9_init_0 10 rfl rfl)
theorem dJ9_init_13 : decode cJ9_init 13 = .ok (.putfield 17, 3) := dk_181 0 17 (dk_at dksJ9_init_0 13 rfl rfl)
theorem dJ9_init_16 : decode cJ9_init 16 = .ok (.aload_n 0, 1) := dk_42 (dk_at dksJ9_init_0 16 rfl rfl)
theorem dJ9_init_17 : decode cJ9_init 17 = .ok (.getstatic 20, 3) := dk_178 0 20 (dk_at dksJ9_init_0 17 rfl rfl)
theorem dJ9_init_20 : decode cJ9_init 20 = .ok (.putfield 24, 3) := dk_181 0 24 (dk_at dksJ9_init_0 20 rfl rfl)
theorem dJ9_init_23 : decode cJ9_init 23 = .ok (.aload_n 0, 1) := dk_42 (dk_at dksJ9_init_0 23 rfl rfl)
theorem dJ9_init_24 : decode cJ9_init 24 = .ok (.invokevirtual 27, 3) := dk_182 0 27 (dk_at dksJ9_init_1 0 rfl rfl)
theorem dJ9_init_27 : decode cJ9_init 27 = .ok (.pop, 1) := dk_87 (dk_at dksJ9_init_1 3 rfl rfl)
theorem dJ9_init_28 : decode cJ9_init 28 = .ok (.return_, 1) := dk_177 (dk_at dksJ9_init_1 4 rfl rfl)
theorem q87 : (Jvm.Cond.initialized "java/lang/Throwable") ∈ lw_all := lw_g (lw_at lw_m1 14 rfl) rfl
theorem q423 : (Jvm.Cond.fieldLink "java/lang/Throwable" (198 : Nat) "java/lang/Throwable" "backtrace" "Ljava/lang/Object;") ∈ lw_all := lw_g (lw_at lw_m2 110 rfl) rfl
theorem q425 : (Jvm.Cond.instanceMethod ({ cls := "java/lang/Throwable", name := "<init>", desc := "()V" } : Jvm.MethodName)) ∈ lw_all := lw_g (lw_at lw_m2 112 rfl) rfl
theorem q426 : (Jvm.Cond.code ({ cls := "java/lang/Throwable", name := "<init>", desc := "()V" } : Jvm.MethodName) prog_46_method_1_code (1 : Nat) (Option.none : Option Jvm.ClassFile.FieldType)) ∈ lw_all := lw_g (lw_at lw_m2 113 rfl) rfl
theorem q427 : (Jvm.Cond.methodLink "java/lang/Throwable" (1 : Nat) ({ cls := "java/lang/Object", name := "<init>", desc := "()V" } : Jvm.MethodName)) ∈ lw_all := lw_g (lw_at lw_m2 114 rfl) rfl
theorem q428 : (Jvm.Cond.fieldLink "java/lang/Throwable" (13 : Nat) "java/lang/Throwable" "UNASSIGNED_STACK" "[Ljava/lang/StackTraceElement;") ∈ lw_all := lw_g (lw_at lw_m2 115 rfl) rfl
theorem q430 : (Jvm.Cond.fieldLink "java/lang/Throwable" (20 : Nat) "java/lang/Throwable" "SUPPRESSED_SENTINEL" "Ljava/util/List;") ∈ lw_all := lw_g (lw_at lw_m2 117 rfl) rfl
theorem q432 : (Jvm.Cond.methodLink "java/lang/Throwable" (27 : Nat) ({ cls := "java/lang/Throwable", name := "fillInStackTrace", desc := "()Ljava/lang/Throwable;" } : Jvm.MethodName)) ∈ lw_all := lw_g (lw_at lw_m2 119 rfl) rfl
theorem q433 : (Jvm.Cond.instanceMethod ({ cls := "java/lang/Throwable", name := "fillInStackTrace", desc := "()Ljava/lang/Throwable;" } : Jvm.MethodName)) ∈ lw_all := lw_g (lw_at lw_m2 120 rfl) rfl
theorem q445 : (Jvm.Cond.codeSync ({ cls := "java/lang/Throwable", name := "fillInStackTrace", desc := "()Ljava/lang/Throwable;" } : Jvm.MethodName) prog_46_method_18_code (1 : Nat) (Option.some (Jvm.ClassFile.FieldType.object "java/lang/Throwable"))) ∈ lw_all := lw_g (lw_at lw_m2 132 rfl) rfl
theorem q446 : (Jvm.Cond.methodLink "java/lang/Throwable" (202 : Nat) ({ cls := "java/lang/Throwable", name := "fillInStackTrace", desc := "(I)Ljava/lang/Throwable;" } : Jvm.MethodName)) ∈ lw_all := lw_g (lw_at lw_m2 133 rfl) rfl
theorem q447 : (Jvm.Cond.privateMethod ({ cls := "java/lang/Throwable", name := "fillInStackTrace", desc := "(I)Ljava/lang/Throwable;" } : Jvm.MethodName)) ∈ lw_tbl := lw_at lw_m2 134 rfl
theorem q448 : (Jvm.Cond.instanceMethod ({ cls := "java/lang/Throwable", name := "fillInStackTrace", desc := "(I)Ljava/lang/Throwable;" } : Jvm.MethodName)) ∈ lw_all := lw_g (lw_at lw_m2 135 rfl) rfl
theorem q450 : (Jvm.Cond.native ({ cls := "java/lang/Throwable", name := "fillInStackTrace", desc := "(I)Ljava/lang/Throwable;" } : Jvm.MethodName)) ∈ lw_all := lw_g (lw_at lw_m2 137 rfl) rfl
theorem q463 : (Jvm.Cond.fieldLink "java/lang/Throwable" (7 : Nat) "java/lang/Throwable" "cause" "Ljava/lang/Throwable;") ∈ lw_all := lw_g (lw_at lw_m2 150 rfl) rfl
theorem q464 : (Jvm.Cond.fieldLink "java/lang/Throwable" (17 : Nat) "java/lang/Throwable" "stackTrace" "[Ljava/lang/StackTraceElement;") ∈ lw_all := lw_g (lw_at lw_m2 151 rfl) rfl
theorem q465 : (Jvm.Cond.fieldLink "java/lang/Throwable" (24 : Nat) "java/lang/Throwable" "suppressedExceptions" "Ljava/util/List;") ∈ lw_all := lw_g (lw_at lw_m2 152 rfl) rfl
theorem q2050 : (Jvm.Cond.declares ({ cls := "java/lang/Throwable", name := "initCause", desc := "(Ljava/lang/Throwable;)Ljava/lang/Throwable;" } : Jvm.MethodName)) ∈ lw_tbl := lw_at lw_m9 57 rfl
theorem q2052 : (Jvm.Cond.instanceMethod ({ cls := "java/lang/Throwable", name := "initCause", desc := "(Ljava/lang/Throwable;)Ljava/lang/Throwable;" } : Jvm.MethodName)) ∈ lw_all := lw_g (lw_at lw_m9 59 rfl) rfl
theorem q2053 : (Jvm.Cond.codeSync ({ cls := "java/lang/Throwable", name := "initCause", desc := "(Ljava/lang/Throwable;)Ljava/lang/Throwable;" } : Jvm.MethodName) prog_46_method_9_code (2 : Nat) (Option.some (Jvm.ClassFile.FieldType.object "java/lang/Throwable"))) ∈ lw_all := lw_g (lw_at lw_m9 60 rfl) rfl
theorem q2986 : (Jvm.Cond.instanceMethod ({ cls := "java/lang/Throwable", name := "getCause", desc := "()Ljava/lang/Throwable;" } : Jvm.MethodName)) ∈ lw_all := lw_g (lw_at lw_m13 33 rfl) rfl
theorem q2999 : (Jvm.Cond.codeSync ({ cls := "java/lang/Throwable", name := "getCause", desc := "()Ljava/lang/Throwable;" } : Jvm.MethodName) prog_46_method_8_code (1 : Nat) (Option.some (Jvm.ClassFile.FieldType.object "java/lang/Throwable"))) ∈ lw_all := lw_g (lw_at lw_m13 46 rfl) rfl
theorem q3537 : (Jvm.Cond.castable "java/lang/Throwable" "java/lang/Object") ∈ lw_tbl := lw_at lw_m15 104 rfl
/-! java/lang/Exception -/
def RJ10 : String := "java/lang/Exception"
abbrev cJ10_init : ByteArray := prog_27_method_1_code
def yJ10_init : MethodName := ⟨RJ10, "<init>", "()V"⟩
theorem dJ10_init_0 : decode cJ10_init 0 = .ok (.aload_n 0, 1) := by decide +kernel
theorem dJ10_init_1 : decode cJ10_init 1 = .ok (.invokespecial 1, 3) := by decide +kernel
theorem dJ10_init_4 : decode cJ10_init 4 = .ok (.return_, 1) := by decide +kernel
theorem q88 : (Jvm.Cond.initialized "java/lang/Exception") ∈ lw_all := lw_g (lw_at lw_m1 15 rfl) rfl
theorem q458 : (Jvm.Cond.instanceMethod ({ cls := "java/lang/Exception", name := "<init>", desc := "()V" } : Jvm.MethodName)) ∈ lw_all := lw_g (lw_at lw_m2 145 rfl) rfl
theorem q459 : (Jvm.Cond.code ({ cls := "java/lang/Exception", name := "<init>", desc := "()V" } : Jvm.MethodName) prog_27_method_1_code (1 : Nat) (Option.none : Option Jvm.ClassFile.FieldType)) ∈ lw_all := lw_g (lw_at lw_m2 146 rfl) rfl
theorem q460 : (Jvm.Cond.methodLink "java/lang/Exception" (1 : Nat) ({ cls := "java/lang/Throwable", name := "<init>", desc := "()V" } : Jvm.MethodName)) ∈ lw_all := lw_g (lw_at lw_m2 147 rfl) rfl
/-! JumpHall$Hindrance -/
def RX5 : String := "JumpHall$Hindrance"
abbrev cX5_init : ByteArray := prog_6_method_1_code
def yX5_init : MethodName := ⟨RX5, "<init>", "(II)V"⟩
def dkwX5_init_0 : List UInt8 := [42, 183, 0, 1, 42, 27, 181, 0, 7, 42, 28, 181, 0, 13, 177]
abbrev dktX5_init_0 : List UInt8 := dkwX5_init_0 ++ []
theorem dksX5_init_0 : cX5_init.data.toList.drop 0 = dktX5_init_0 := by decide +kernel
theorem dX5_init_0 : decode cX5_init 0 = .ok (.aload_n 0, 1) := dk_42 (dk_at dksX5_init_0 0 rfl rfl)
theorem dX5_init_1 : decode cX5_init 1 = .ok (.invokespecial 1, 3) := dk_183 0 1 (dk_at dksX5_init_0 1 rfl rfl)
theorem dX5_init_4 : decode cX5_init 4 = .ok (.aload_n 0, 1) := dk_42 (dk_at dksX5_init_0 4 rfl rfl)
theorem dX5_init_5 : decode cX5_init 5 = .ok (.iload_n 1, 1) := dk_27 (dk_at dksX5_init_0 5 rfl rfl)
theorem dX5_init_6 : decode cX5_init 6 = .ok (.putfield 7, 3) := dk_181 0 7 (dk_at dksX5_init_0 6 rfl rfl)
theorem dX5_init_9 : decode cX5_init 9 = .ok (.aload_n 0, 1) := dk_42 (dk_at dksX5_init_0 9 rfl rfl)
theorem dX5_init_10 : decode cX5_init 10 = .ok (.iload_n 2, 1) := dk_28 (dk_at dksX5_init_0 10 rfl rfl)
theorem dX5_init_11 : decode cX5_init 11 = .ok (.putfield 13, 3) := dk_181 0 13 (dk_at dksX5_init_0 11 rfl rfl)
theorem dX5_init_14 : decode cX5_init 14 = .ok (.return_, 1) := dk_177 (dk_at dksX5_init_0 14 rfl rfl)
abbrev cX5_at : ByteArray := prog_6_method_2_code
def yX5_at : MethodName := ⟨RX5, "at", "(I)LJumpHall$Hindrance;"⟩
def dkwX5_at_1 : List UInt8 := [44, 192, 0, 8, 176]
abbrev dktX5_at_1 : List UInt8 := dkwX5_at_1 ++ []
def dkwX5_at_0 : List UInt8 := [42, 77, 3, 62, 29, 27, 162, 0, 18, 44, 198, 0, 14, 44, 182, 0, 16, 77, 132, 3, 1, 167, 255, 239]
abbrev dktX5_at_0 : List UInt8 := dkwX5_at_0 ++ dktX5_at_1
theorem dksX5_at_0 : cX5_at.data.toList.drop 0 = dktX5_at_0 := by decide +kernel
theorem dksX5_at_1 : cX5_at.data.toList.drop 24 = dktX5_at_1 := dk_seg dksX5_at_0 24 rfl rfl
theorem dX5_at_0 : decode cX5_at 0 = .ok (.aload_n 0, 1) := dk_42 (dk_at dksX5_at_0 0 rfl rfl)
theorem dX5_at_1 : decode cX5_at 1 = .ok (.astore_n 2, 1) := dk_77 (dk_at dksX5_at_0 1 rfl rfl)
theorem dX5_at_2 : decode cX5_at 2 = .ok (.iconst 0, 1) := dk_3 (dk_at dksX5_at_0 2 rfl rfl)
theorem dX5_at_3 : decode cX5_at 3 = .ok (.istore_n 3, 1) := dk_62 (dk_at dksX5_at_0 3 rfl rfl)
theorem dX5_at_4 : decode cX5_at 4 = .ok (.iload_n 3, 1) := dk_29 (dk_at dksX5_at_0 4 rfl rfl)
theorem dX5_at_5 : decode cX5_at 5 = .ok (.iload_n 1, 1) := dk_27 (dk_at dksX5_at_0 5 rfl rfl)
theorem dX5_at_6 : decode cX5_at 6 = .ok (.if_icmp .ge 18, 3) := dk_162 0 18 (dk_at dksX5_at_0 6 rfl rfl)
theorem dX5_at_9 : decode cX5_at 9 = .ok (.aload_n 2, 1) := dk_44 (dk_at dksX5_at_0 9 rfl rfl)
theorem dX5_at_10 : decode cX5_at 10 = .ok (.ifnull 14, 3) := dk_198 0 14 (dk_at dksX5_at_0 10 rfl rfl)
theorem dX5_at_13 : decode cX5_at 13 = .ok (.aload_n 2, 1) := dk_44 (dk_at dksX5_at_0 13 rfl rfl)
theorem dX5_at_14 : decode cX5_at 14 = .ok (.invokevirtual 16, 3) := dk_182 0 16 (dk_at dksX5_at_0 14 rfl rfl)
theorem dX5_at_17 : decode cX5_at 17 = .ok (.astore_n 2, 1) := dk_77 (dk_at dksX5_at_0 17 rfl rfl)
theorem dX5_at_18 : decode cX5_at 18 = .ok (.iinc 3 1, 3) := dk_132 3 1 (dk_at dksX5_at_0 18 rfl rfl)
theorem dX5_at_21 : decode cX5_at 21 = .ok (.goto (-17), 3) := dk_167 255 239 (dk_at dksX5_at_0 21 rfl rfl)
theorem dX5_at_24 : decode cX5_at 24 = .ok (.aload_n 2, 1) := dk_44 (dk_at dksX5_at_1 0 rfl rfl)
theorem dX5_at_25 : decode cX5_at 25 = .ok (.checkcast 8, 3) := dk_192 0 8 (dk_at dksX5_at_1 1 rfl rfl)
theorem dX5_at_28 : decode cX5_at 28 = .ok (.areturn, 1) := dk_176 (dk_at dksX5_at_1 4 rfl rfl)
theorem q89 : (Jvm.Cond.initialized "JumpHall$Hindrance") ∈ lw_all := lw_g (lw_at lw_m1 16 rfl) rfl
theorem q1737 : (Jvm.Cond.instanceMethod ({ cls := "JumpHall$Hindrance", name := "<init>", desc := "(II)V" } : Jvm.MethodName)) ∈ lw_all := lw_g (lw_at lw_m7 224 rfl) rfl
theorem q1738 : (Jvm.Cond.code ({ cls := "JumpHall$Hindrance", name := "<init>", desc := "(II)V" } : Jvm.MethodName) prog_6_method_1_code (3 : Nat) (Option.none : Option Jvm.ClassFile.FieldType)) ∈ lw_all := lw_g (lw_at lw_m7 225 rfl) rfl
theorem q1739 : (Jvm.Cond.methodLink "JumpHall$Hindrance" (1 : Nat) ({ cls := "java/lang/Exception", name := "<init>", desc := "()V" } : Jvm.MethodName)) ∈ lw_all := lw_g (lw_at lw_m7 226 rfl) rfl
theorem q1740 : (Jvm.Cond.fieldLink "JumpHall$Hindrance" (7 : Nat) "JumpHall$Hindrance" "reason" "I") ∈ lw_all := lw_g (lw_at lw_m7 227 rfl) rfl
theorem q1742 : (Jvm.Cond.fieldLink "JumpHall$Hindrance" (13 : Nat) "JumpHall$Hindrance" "detail" "I") ∈ lw_all := lw_g (lw_at lw_m7 229 rfl) rfl
theorem q2980 : (Jvm.Cond.instanceMethod ({ cls := "JumpHall$Hindrance", name := "at", desc := "(I)LJumpHall$Hindrance;" } : Jvm.MethodName)) ∈ lw_all := lw_g (lw_at lw_m13 27 rfl) rfl
theorem q2984 : (Jvm.Cond.code ({ cls := "JumpHall$Hindrance", name := "at", desc := "(I)LJumpHall$Hindrance;" } : Jvm.MethodName) prog_6_method_2_code (4 : Nat) (Option.some (Jvm.ClassFile.FieldType.object "JumpHall$Hindrance"))) ∈ lw_all := lw_g (lw_at lw_m13 31 rfl) rfl
theorem q2985 : (Jvm.Cond.methodLink "JumpHall$Hindrance" (16 : Nat) ({ cls := "java/lang/Throwable", name := "getCause", desc := "()Ljava/lang/Throwable;" } : Jvm.MethodName)) ∈ lw_all := lw_g (lw_at lw_m13 32 rfl) rfl
theorem q3000 : (Jvm.Cond.classLink "JumpHall$Hindrance" (8 : Nat) "JumpHall$Hindrance") ∈ lw_all := lw_g (lw_at lw_m13 47 rfl) rfl
/-! JumpHall$Refusal -/
def RX6 : String := "JumpHall$Refusal"
abbrev cX6_init : ByteArray := prog_12_method_1_code
def yX6_init : MethodName := ⟨RX6, "<init>", "(II)V"⟩
def dkwX6_init_0 : List UInt8 := [42, 27, 28, 183, 0, 1, 177]
abbrev dktX6_init_0 : List UInt8 := dkwX6_init_0 ++ []
theorem dksX6_init_0 : cX6_init.data.toList.drop 0 = dktX6_init_0 := by decide +kernel
theorem dX6_init_0 : decode cX6_init 0 = .ok (.aload_n 0, 1) := dk_42 (dk_at dksX6_init_0 0 rfl rfl)
theorem dX6_init_1 : decode cX6_init 1 = .ok (.iload_n 1, 1) := dk_27 (dk_at dksX6_init_0 1 rfl rfl)
theorem dX6_init_2 : decode cX6_init 2 = .ok (.iload_n 2, 1) := dk_28 (dk_at dksX6_init_0 2 rfl rfl)
theorem dX6_init_3 : decode cX6_init 3 = .ok (.invokespecial 1, 3) := dk_183 0 1 (dk_at dksX6_init_0 3 rfl rfl)
theorem dX6_init_6 : decode cX6_init 6 = .ok (.return_, 1) := dk_177 (dk_at dksX6_init_0 6 rfl rfl)
abbrev cX6_behind : ByteArray := prog_12_method_2_code
def yX6_behind : MethodName := ⟨RX6, "behind", "(LJumpHall$Hindrance;)LJumpHall$Refusal;"⟩
def dkwX6_behind_0 : List UInt8 := [43, 198, 0, 9, 42, 43, 182, 0, 7, 77, 42, 176]
abbrev dktX6_behind_0 : List UInt8 := dkwX6_behind_0 ++ []
theorem dksX6_behind_0 : cX6_behind.data.toList.drop 0 = dktX6_behind_0 := by decide +kernel
theorem dX6_behind_0 : decode cX6_behind 0 = .ok (.aload_n 1, 1) := dk_43 (dk_at dksX6_behind_0 0 rfl rfl)
theorem dX6_behind_1 : decode cX6_behind 1 = .ok (.ifnull 9, 3) := dk_198 0 9 (dk_at dksX6_behind_0 1 rfl rfl)
theorem dX6_behind_4 : decode cX6_behind 4 = .ok (.aload_n 0, 1) := dk_42 (dk_at dksX6_behind_0 4 rfl rfl)
theorem dX6_behind_5 : decode cX6_behind 5 = .ok (.aload_n 1, 1) := dk_43 (dk_at dksX6_behind_0 5 rfl rfl)
theorem dX6_behind_6 : decode cX6_behind 6 = .ok (.invokevirtual 7, 3) := dk_182 0 7 (dk_at dksX6_behind_0 6 rfl rfl)
theorem dX6_behind_9 : decode cX6_behind 9 = .ok (.astore_n 2, 1) := dk_77 (dk_at dksX6_behind_0 9 rfl rfl)
theorem dX6_behind_10 : decode cX6_behind 10 = .ok (.aload_n 0, 1) := dk_42 (dk_at dksX6_behind_0 10 rfl rfl)
theorem dX6_behind_11 : decode cX6_behind 11 = .ok (.areturn, 1) := dk_176 (dk_at dksX6_behind_0 11 rfl rfl)
theorem q90 : (Jvm.Cond.initialized "JumpHall$Refusal") ∈ lw_all := lw_g (lw_at lw_m1 17 rfl) rfl
theorem q437 : (Jvm.Cond.selects "JumpHall$Refusal" ({ cls := "java/lang/Throwable", name := "fillInStackTrace", desc := "()Ljava/lang/Throwable;" } : Jvm.MethodName) ({ cls := "java/lang/Throwable", name := "fillInStackTrace", desc := "()Ljava/lang/Throwable;" } : Jvm.MethodName)) ∈ lw_all := lw_g (lw_at lw_m2 124 rfl) rfl
theorem q1725 : (Jvm.Cond.instantiable "JumpHall$Refusal" (8 : Nat)) ∈ lw_all := lw_g (lw_at lw_m7 212 rfl) rfl
theorem q1734 : (Jvm.Cond.instanceMethod ({ cls := "JumpHall$Refusal", name := "<init>", desc := "(II)V" } : Jvm.MethodName)) ∈ lw_all := lw_g (lw_at lw_m7 221 rfl) rfl
theorem q1735 : (Jvm.Cond.code ({ cls := "JumpHall$Refusal", name := "<init>", desc := "(II)V" } : Jvm.MethodName) prog_12_method_1_code (3 : Nat) (Option.none : Option Jvm.ClassFile.FieldType)) ∈ lw_all := lw_g (lw_at lw_m7 222 rfl) rfl
theorem q1736 : (Jvm.Cond.methodLink "JumpHall$Refusal" (1 : Nat) ({ cls := "JumpHall$Hindrance", name := "<init>", desc := "(II)V" } : Jvm.MethodName)) ∈ lw_all := lw_g (lw_at lw_m7 223 rfl) rfl
theorem q2045 : (Jvm.Cond.instanceMethod ({ cls := "JumpHall$Refusal", name := "behind", desc := "(LJumpHall$Hindrance;)LJumpHall$Refusal;" } : Jvm.MethodName)) ∈ lw_all := lw_g (lw_at lw_m9 52 rfl) rfl
theorem q2046 : (Jvm.Cond.selects "JumpHall$Refusal" ({ cls := "JumpHall$Refusal", name := "behind", desc := "(LJumpHall$Hindrance;)LJumpHall$Refusal;" } : Jvm.MethodName) ({ cls := "JumpHall$Refusal", name := "behind", desc := "(LJumpHall$Hindrance;)LJumpHall$Refusal;" } : Jvm.MethodName)) ∈ lw_all := lw_g (lw_at lw_m9 53 rfl) rfl
theorem q2047 : (Jvm.Cond.code ({ cls := "JumpHall$Refusal", name := "behind", desc := "(LJumpHall$Hindrance;)LJumpHall$Refusal;" } : Jvm.MethodName) prog_12_method_2_code (3 : Nat) (Option.some (Jvm.ClassFile.FieldType.object "JumpHall$Refusal"))) ∈ lw_all := lw_g (lw_at lw_m9 54 rfl) rfl
theorem q2048 : (Jvm.Cond.methodLink "JumpHall$Refusal" (7 : Nat) ({ cls := "JumpHall$Refusal", name := "initCause", desc := "(Ljava/lang/Throwable;)Ljava/lang/Throwable;" } : Jvm.MethodName)) ∈ lw_all := lw_g (lw_at lw_m9 55 rfl) rfl
theorem q2049 : (Jvm.Cond.sameMethod "JumpHall$Refusal" "java/lang/Throwable" "initCause" "(Ljava/lang/Throwable;)Ljava/lang/Throwable;") ∈ lw_all := lw_g (lw_at lw_m9 56 rfl) rfl
theorem q2051 : (Jvm.Cond.selects "JumpHall$Refusal" ({ cls := "JumpHall$Refusal", name := "initCause", desc := "(Ljava/lang/Throwable;)Ljava/lang/Throwable;" } : Jvm.MethodName) ({ cls := "java/lang/Throwable", name := "initCause", desc := "(Ljava/lang/Throwable;)Ljava/lang/Throwable;" } : Jvm.MethodName)) ∈ lw_all := lw_g (lw_at lw_m9 58 rfl) rfl
theorem q2983 : (Jvm.Cond.selects "JumpHall$Refusal" ({ cls := "JumpHall$Hindrance", name := "at", desc := "(I)LJumpHall$Hindrance;" } : Jvm.MethodName) ({ cls := "JumpHall$Hindrance", name := "at", desc := "(I)LJumpHall$Hindrance;" } : Jvm.MethodName)) ∈ lw_all := lw_g (lw_at lw_m13 30 rfl) rfl
theorem q2990 : (Jvm.Cond.selects "JumpHall$Refusal" ({ cls := "java/lang/Throwable", name := "getCause", desc := "()Ljava/lang/Throwable;" } : Jvm.MethodName) ({ cls := "java/lang/Throwable", name := "getCause", desc := "()Ljava/lang/Throwable;" } : Jvm.MethodName)) ∈ lw_all := lw_g (lw_at lw_m13 37 rfl) rfl
theorem q3499 : (Jvm.Cond.castable "JumpHall$Refusal" "JumpHall$Hindrance") ∈ lw_tbl := lw_at lw_m15 66 rfl
theorem q3509 : (Jvm.Cond.castable "JumpHall$Refusal" "java/lang/Object") ∈ lw_tbl := lw_at lw_m15 76 rfl
/-! JumpHall$Mat -/
def RX7 : String := "JumpHall$Mat"
abbrev cX7_copy : ByteArray := prog_8_method_2_code
def yX7_copy : MethodName := ⟨RX7, "copy", "()LJumpHall$Mat;"⟩
def dkwX7_copy_1 : List UInt8 := [42, 180, 0, 22, 181, 0, 22, 43, 42, 180, 0, 26, 181, 0, 26, 43, 176]
abbrev dktX7_copy_1 : List UInt8 := dkwX7_copy_1 ++ []
def dkwX7_copy_0 : List UInt8 := [187, 0, 10, 89, 183, 0, 15, 76, 42, 180, 0, 9, 3, 43, 180, 0, 9, 3, 16, 8, 184, 0, 16, 43]
abbrev dktX7_copy_0 : List UInt8 := dkwX7_copy_0 ++ dktX7_copy_1
theorem dksX7_copy_0 : cX7_copy.data.toList.drop 0 = dktX7_copy_0 := by decide +kernel
theorem dksX7_copy_1 : cX7_copy.data.toList.drop 24 = dktX7_copy_1 := dk_seg dksX7_copy_0 24 rfl rfl
theorem dX7_copy_0 : decode cX7_copy 0 = .ok (.new 10, 3) := dk_187 0 10 (dk_at dksX7_copy_0 0 rfl rfl)
theorem dX7_copy_3 : decode cX7_copy 3 = .ok (.dup, 1) := dk_89 (dk_at dksX7_copy_0 3 rfl rfl)
theorem dX7_copy_4 : decode cX7_copy 4 = .ok (.invokespecial 15, 3) := dk_183 0 15 (dk_at dksX7_copy_0 4 rfl rfl)
theorem dX7_copy_7 : decode cX7_copy 7 = .ok (.astore_n 1, 1) := dk_76 (dk_at dksX7_copy_0 7 rfl rfl)
theorem dX7_copy_8 : decode cX7_copy 8 = .ok (.aload_n 0, 1) := dk_42 (dk_at dksX7_copy_0 8 rfl rfl)
theorem dX7_copy_9 : decode cX7_copy 9 = .ok (.getfield 9, 3) := dk_180 0 9 (dk_at dksX7_copy_0 9 rfl rfl)
theorem dX7_copy_12 : decode cX7_copy 12 = .ok (.iconst 0, 1) := dk_3 (dk_at dksX7_copy_0 12 rfl rfl)
theorem dX7_copy_13 : decode cX7_copy 13 = .ok (.aload_n 1, 1) := dk_43 (dk_at dksX7_copy_0 13 rfl rfl)
theorem dX7_copy_14 : decode cX7_copy 14 = .ok (.getfield 9, 3) := dk_180 0 9 (dk_at dksX7_copy_0 14 rfl rfl)
theorem dX7_copy_17 : decode cX7_copy 17 = .ok (.iconst 0, 1) := dk_3 (dk_at dksX7_copy_0 17 rfl rfl)
theorem dX7_copy_18 : decode cX7_copy 18 = .ok (.bipush 8, 2) := dk_16 8 (dk_at dksX7_copy_0 18 rfl rfl)
theorem dX7_copy_20 : decode cX7_copy 20 = .ok (.invokestatic 16, 3) := dk_184 0 16 (dk_at dksX7_copy_0 20 rfl rfl)
theorem dX7_copy_23 : decode cX7_copy 23 = .ok (.aload_n 1, 1) := dk_43 (dk_at dksX7_copy_0 23 rfl rfl)
theorem dX7_copy_24 : decode cX7_copy 24 = .ok (.aload_n 0, 1) := dk_42 (dk_at dksX7_copy_1 0 rfl rfl)
theorem dX7_copy_25 : decode cX7_copy 25 = .ok (.getfield 22, 3) := dk_180 0 22 (dk_at dksX7_copy_1 1 rfl rfl)
theorem dX7_copy_28 : decode cX7_copy 28 = .ok (.putfield 22, 3) := dk_181 0 22 (dk_at dksX7_copy_1 4 rfl rfl)
theorem dX7_copy_31 : decode cX7_copy 31 = .ok (.aload_n 1, 1) := dk_43 (dk_at dksX7_copy_1 7 rfl rfl)
theorem dX7_copy_32 : decode cX7_copy 32 = .ok (.aload_n 0, 1) := dk_42 (dk_at dksX7_copy_1 8 rfl rfl)
theorem dX7_copy_33 : decode cX7_copy 33 = .ok (.getfield 26, 3) := dk_180 0 26 (dk_at dksX7_copy_1 9 rfl rfl)
theorem dX7_copy_36 : decode cX7_copy 36 = .ok (.putfield 26, 3) := dk_181 0 26 (dk_at dksX7_copy_1 12 rfl rfl)
theorem dX7_copy_39 : decode cX7_copy 39 = .ok (.aload_n 1, 1) := dk_43 (dk_at dksX7_copy_1 15 rfl rfl)
theorem dX7_copy_40 : decode cX7_copy 40 = .ok (.areturn, 1) := dk_176 (dk_at dksX7_copy_1 16 rfl rfl)
abbrev cX7_init : ByteArray := prog_8_method_1_code
def yX7_init : MethodName := ⟨RX7, "<init>", "()V"⟩
def dkwX7_init_0 : List UInt8 := [42, 183, 0, 3, 42, 16, 8, 188, 10, 181, 0, 9, 177]
abbrev dktX7_init_0 : List UInt8 := dkwX7_init_0 ++ []
theorem dksX7_init_0 : cX7_init.data.toList.drop 0 = dktX7_init_0 := by decide +kernel
theorem dX7_init_0 : decode cX7_init 0 = .ok (.aload_n 0, 1) := dk_42 (dk_at dksX7_init_0 0 rfl rfl)
theorem dX7_init_1 : decode cX7_init 1 = .ok (.invokespecial 3, 3) := dk_183 0 3 (dk_at dksX7_init_0 1 rfl rfl)
theorem dX7_init_4 : decode cX7_init 4 = .ok (.aload_n 0, 1) := dk_42 (dk_at dksX7_init_0 4 rfl rfl)
theorem dX7_init_5 : decode cX7_init 5 = .ok (.bipush 8, 2) := dk_16 8 (dk_at dksX7_init_0 5 rfl rfl)
theorem dX7_init_7 : decode cX7_init 7 = .ok (.newarray .int, 2) := dk_188_10 (dk_at dksX7_init_0 7 rfl rfl)
theorem dX7_init_9 : decode cX7_init 9 = .ok (.putfield 9, 3) := dk_181 0 9 (dk_at dksX7_init_0 9 rfl rfl)
theorem dX7_init_12 : decode cX7_init 12 = .ok (.return_, 1) := dk_177 (dk_at dksX7_init_0 12 rfl rfl)
abbrev cX7_bears : ByteArray := prog_8_method_5_code
def yX7_bears : MethodName := ⟨RX7, "bears", "()I"⟩
def dkwX7_bears_1 : List UInt8 := [16, 12, 96, 60, 132, 2, 1, 167, 255, 230, 27, 172]
abbrev dktX7_bears_1 : List UInt8 := dkwX7_bears_1 ++ []
def dkwX7_bears_0 : List UInt8 := [3, 60, 3, 61, 28, 16, 8, 162, 0, 26, 27, 42, 28, 182, 0, 30, 153, 0, 7, 3, 167, 0, 5]
abbrev dktX7_bears_0 : List UInt8 := dkwX7_bears_0 ++ dktX7_bears_1
theorem dksX7_bears_0 : cX7_bears.data.toList.drop 0 = dktX7_bears_0 := by decide +kernel
theorem dksX7_bears_1 : cX7_bears.data.toList.drop 23 = dktX7_bears_1 := dk_seg dksX7_bears_0 23 rfl rfl
theorem dX7_bears_0 : decode cX7_bears 0 = .ok (.iconst 0, 1) := dk_3 (dk_at dksX7_bears_0 0 rfl rfl)
theorem dX7_bears_1 : decode cX7_bears 1 = .ok (.istore_n 1, 1) := dk_60 (dk_at dksX7_bears_0 1 rfl rfl)
theorem dX7_bears_2 : decode cX7_bears 2 = .ok (.iconst 0, 1) := dk_3 (dk_at dksX7_bears_0 2 rfl rfl)
theorem dX7_bears_3 : decode cX7_bears 3 = .ok (.istore_n 2, 1) := dk_61 (dk_at dksX7_bears_0 3 rfl rfl)
theorem dX7_bears_4 : decode cX7_bears 4 = .ok (.iload_n 2, 1) := dk_28 (dk_at dksX7_bears_0 4 rfl rfl)
theorem dX7_bears_5 : decode cX7_bears 5 = .ok (.bipush 8, 2) := dk_16 8 (dk_at dksX7_bears_0 5 rfl rfl)
theorem dX7_bears_7 : decode cX7_bears 7 = .ok (.if_icmp .ge 26, 3) := dk_162 0 26 (dk_at dksX7_bears_0 7 rfl rfl)
theorem dX7_bears_10 : decode cX7_bears 10 = .ok (.iload_n 1, 1) := dk_27 (dk_at dksX7_bears_0 10 rfl rfl)
theorem dX7_bears_11 : decode cX7_bears 11 = .ok (.aload_n 0, 1) := dk_42 (dk_at dksX7_bears_0 11 rfl rfl)
theorem dX7_bears_12 : decode cX7_bears 12 = .ok (.iload_n 2, 1) := dk_28 (dk_at dksX7_bears_0 12 rfl rfl)
theorem dX7_bears_13 : decode cX7_bears 13 = .ok (.invokevirtual 30, 3) := dk_182 0 30 (dk_at dksX7_bears_0 13 rfl rfl)
theorem dX7_bears_16 : decode cX7_bears 16 = .ok (.ifCond .eq 7, 3) := dk_153 0 7 (dk_at dksX7_bears_0 16 rfl rfl)
theorem dX7_bears_19 : decode cX7_bears 19 = .ok (.iconst 0, 1) := dk_3 (dk_at dksX7_bears_0 19 rfl rfl)
theorem dX7_bears_20 : decode cX7_bears 20 = .ok (.goto 5, 3) := dk_167 0 5 (dk_at dksX7_bears_0 20 rfl rfl)
theorem dX7_bears_23 : decode cX7_bears 23 = .ok (.bipush 12, 2) := dk_16 12 (dk_at dksX7_bears_1 0 rfl rfl)
theorem dX7_bears_25 : decode cX7_bears 25 = .ok (.iadd, 1) := dk_96 (dk_at dksX7_bears_1 2 rfl rfl)
theorem dX7_bears_26 : decode cX7_bears 26 = .ok (.istore_n 1, 1) := dk_60 (dk_at dksX7_bears_1 3 rfl rfl)
theorem dX7_bears_27 : decode cX7_bears 27 = .ok (.iinc 2 1, 3) := dk_132 2 1 (dk_at dksX7_bears_1 4 rfl rfl)
theorem dX7_bears_30 : decode cX7_bears 30 = .ok (.goto (-26), 3) := dk_167 255 230 (dk_at dksX7_bears_1 7 rfl rfl)
theorem dX7_bears_33 : decode cX7_bears 33 = .ok (.iload_n 1, 1) := dk_27 (dk_at dksX7_bears_1 10 rfl rfl)
theorem dX7_bears_34 : decode cX7_bears 34 = .ok (.ireturn, 1) := dk_172 (dk_at dksX7_bears_1 11 rfl rfl)
abbrev cX7_isBroken : ByteArray := prog_8_method_3_code
def yX7_isBroken : MethodName := ⟨RX7, "isBroken", "(I)Z"⟩
def dkwX7_isBroken_0 : List UInt8 := [42, 180, 0, 9, 27, 46, 16, 9, 160, 0, 7, 4, 167, 0, 4, 3, 172]
abbrev dktX7_isBroken_0 : List UInt8 := dkwX7_isBroken_0 ++ []
theorem dksX7_isBroken_0 : cX7_isBroken.data.toList.drop 0 = dktX7_isBroken_0 := by decide +kernel
theorem dX7_isBroken_0 : decode cX7_isBroken 0 = .ok (.aload_n 0, 1) := dk_42 (dk_at dksX7_isBroken_0 0 rfl rfl)
theorem dX7_isBroken_1 : decode cX7_isBroken 1 = .ok (.getfield 9, 3) := dk_180 0 9 (dk_at dksX7_isBroken_0 1 rfl rfl)
theorem dX7_isBroken_4 : decode cX7_isBroken 4 = .ok (.iload_n 1, 1) := dk_27 (dk_at dksX7_isBroken_0 4 rfl rfl)
theorem dX7_isBroken_5 : decode cX7_isBroken 5 = .ok (.iaload, 1) := dk_46 (dk_at dksX7_isBroken_0 5 rfl rfl)
theorem dX7_isBroken_6 : decode cX7_isBroken 6 = .ok (.bipush 9, 2) := dk_16 9 (dk_at dksX7_isBroken_0 6 rfl rfl)
theorem dX7_isBroken_8 : decode cX7_isBroken 8 = .ok (.if_icmp .ne 7, 3) := dk_160 0 7 (dk_at dksX7_isBroken_0 8 rfl rfl)
theorem dX7_isBroken_11 : decode cX7_isBroken 11 = .ok (.iconst 1, 1) := dk_4 (dk_at dksX7_isBroken_0 11 rfl rfl)
theorem dX7_isBroken_12 : decode cX7_isBroken 12 = .ok (.goto 4, 3) := dk_167 0 4 (dk_at dksX7_isBroken_0 12 rfl rfl)
theorem dX7_isBroken_15 : decode cX7_isBroken 15 = .ok (.iconst 0, 1) := dk_3 (dk_at dksX7_isBroken_0 15 rfl rfl)
theorem dX7_isBroken_16 : decode cX7_isBroken 16 = .ok (.ireturn, 1) := dk_172 (dk_at dksX7_isBroken_0 16 rfl rfl)
abbrev cX7_broken : ByteArray := prog_8_method_4_code
def yX7_broken : MethodName := ⟨RX7, "broken", "()I"⟩
def dkwX7_broken_1 : List UInt8 := [96, 60, 132, 2, 1, 167, 255, 231, 27, 172]
abbrev dktX7_broken_1 : List UInt8 := dkwX7_broken_1 ++ []
def dkwX7_broken_0 : List UInt8 := [3, 60, 3, 61, 28, 16, 8, 162, 0, 25, 27, 42, 28, 182, 0, 30, 153, 0, 7, 4, 167, 0, 4, 3]
abbrev dktX7_broken_0 : List UInt8 := dkwX7_broken_0 ++ dktX7_broken_1
theorem dksX7_broken_0 : cX7_broken.data.toList.drop 0 = dktX7_broken_0 := by decide +kernel
theorem dksX7_broken_1 : cX7_broken.data.toList.drop 24 = dktX7_broken_1 := dk_seg dksX7_broken_0 24 rfl rfl
theorem dX7_broken_0 : decode cX7_broken 0 = .ok (.iconst 0, 1) := dk_3 (dk_at dksX7_broken_0 0 rfl rfl)
theorem dX7_broken_1 : decode cX7_broken 1 = .ok (.istore_n 1, 1) := dk_60 (dk_at dksX7_broken_0 1 rfl rfl)
theorem dX7_broken_2 : decode cX7_broken 2 = .ok (.iconst 0, 1) := dk_3 (dk_at dksX7_broken_0 2 rfl rfl)
theorem dX7_broken_3 : decode cX7_broken 3 = .ok (.istore_n 2, 1) := dk_61 (dk_at dksX7_broken_0 3 rfl rfl)
theorem dX7_broken_4 : decode cX7_broken 4 = .ok (.iload_n 2, 1) := dk_28 (dk_at dksX7_broken_0 4 rfl rfl)
theorem dX7_broken_5 : decode cX7_broken 5 = .ok (.bipush 8, 2) := dk_16 8 (dk_at dksX7_broken_0 5 rfl rfl)
theorem dX7_broken_7 : decode cX7_broken 7 = .ok (.if_icmp .ge 25, 3) := dk_162 0 25 (dk_at dksX7_broken_0 7 rfl rfl)
theorem dX7_broken_10 : decode cX7_broken 10 = .ok (.iload_n 1, 1) := dk_27 (dk_at dksX7_broken_0 10 rfl rfl)
theorem dX7_broken_11 : decode cX7_broken 11 = .ok (.aload_n 0, 1) := dk_42 (dk_at dksX7_broken_0 11 rfl rfl)
theorem dX7_broken_12 : decode cX7_broken 12 = .ok (.iload_n 2, 1) := dk_28 (dk_at dksX7_broken_0 12 rfl rfl)
theorem dX7_broken_13 : decode cX7_broken 13 = .ok (.invokevirtual 30, 3) := dk_182 0 30 (dk_at dksX7_broken_0 13 rfl rfl)
theorem dX7_broken_16 : decode cX7_broken 16 = .ok (.ifCond .eq 7, 3) := dk_153 0 7 (dk_at dksX7_broken_0 16 rfl rfl)
theorem dX7_broken_19 : decode cX7_broken 19 = .ok (.iconst 1, 1) := dk_4 (dk_at dksX7_broken_0 19 rfl rfl)
theorem dX7_broken_20 : decode cX7_broken 20 = .ok (.goto 4, 3) := dk_167 0 4 (dk_at dksX7_broken_0 20 rfl rfl)
theorem dX7_broken_23 : decode cX7_broken 23 = .ok (.iconst 0, 1) := dk_3 (dk_at dksX7_broken_0 23 rfl rfl)
theorem dX7_broken_24 : decode cX7_broken 24 = .ok (.iadd, 1) := dk_96 (dk_at dksX7_broken_1 0 rfl rfl)
theorem dX7_broken_25 : decode cX7_broken 25 = .ok (.istore_n 1, 1) := dk_60 (dk_at dksX7_broken_1 1 rfl rfl)
theorem dX7_broken_26 : decode cX7_broken 26 = .ok (.iinc 2 1, 3) := dk_132 2 1 (dk_at dksX7_broken_1 2 rfl rfl)
theorem dX7_broken_29 : decode cX7_broken 29 = .ok (.goto (-25), 3) := dk_167 255 231 (dk_at dksX7_broken_1 5 rfl rfl)
theorem dX7_broken_32 : decode cX7_broken 32 = .ok (.iload_n 1, 1) := dk_27 (dk_at dksX7_broken_1 8 rfl rfl)
theorem dX7_broken_33 : decode cX7_broken 33 = .ok (.ireturn, 1) := dk_172 (dk_at dksX7_broken_1 9 rfl rfl)
abbrev cX7_sum : ByteArray := prog_8_method_6_code
def yX7_sum : MethodName := ⟨RX7, "sum", "()I"⟩
def dkwX7_sum_1 : List UInt8 := [54, 5, 27, 21, 5, 96, 60, 132, 4, 1, 167, 255, 236, 27, 172]
abbrev dktX7_sum_1 : List UInt8 := dkwX7_sum_1 ++ []
def dkwX7_sum_0 : List UInt8 := [3, 60, 42, 180, 0, 9, 77, 44, 190, 62, 3, 54, 4, 21, 4, 29, 162, 0, 20, 44, 21, 4, 46]
abbrev dktX7_sum_0 : List UInt8 := dkwX7_sum_0 ++ dktX7_sum_1
theorem dksX7_sum_0 : cX7_sum.data.toList.drop 0 = dktX7_sum_0 := by decide +kernel
theorem dksX7_sum_1 : cX7_sum.data.toList.drop 23 = dktX7_sum_1 := dk_seg dksX7_sum_0 23 rfl rfl
theorem dX7_sum_0 : decode cX7_sum 0 = .ok (.iconst 0, 1) := dk_3 (dk_at dksX7_sum_0 0 rfl rfl)
theorem dX7_sum_1 : decode cX7_sum 1 = .ok (.istore_n 1, 1) := dk_60 (dk_at dksX7_sum_0 1 rfl rfl)
theorem dX7_sum_2 : decode cX7_sum 2 = .ok (.aload_n 0, 1) := dk_42 (dk_at dksX7_sum_0 2 rfl rfl)
theorem dX7_sum_3 : decode cX7_sum 3 = .ok (.getfield 9, 3) := dk_180 0 9 (dk_at dksX7_sum_0 3 rfl rfl)
theorem dX7_sum_6 : decode cX7_sum 6 = .ok (.astore_n 2, 1) := dk_77 (dk_at dksX7_sum_0 6 rfl rfl)
theorem dX7_sum_7 : decode cX7_sum 7 = .ok (.aload_n 2, 1) := dk_44 (dk_at dksX7_sum_0 7 rfl rfl)
theorem dX7_sum_8 : decode cX7_sum 8 = .ok (.arraylength, 1) := dk_190 (dk_at dksX7_sum_0 8 rfl rfl)
theorem dX7_sum_9 : decode cX7_sum 9 = .ok (.istore_n 3, 1) := dk_62 (dk_at dksX7_sum_0 9 rfl rfl)
theorem dX7_sum_10 : decode cX7_sum 10 = .ok (.iconst 0, 1) := dk_3 (dk_at dksX7_sum_0 10 rfl rfl)
theorem dX7_sum_11 : decode cX7_sum 11 = .ok (.istore 4, 2) := dk_54 4 (dk_at dksX7_sum_0 11 rfl rfl)
theorem dX7_sum_13 : decode cX7_sum 13 = .ok (.iload 4, 2) := dk_21 4 (dk_at dksX7_sum_0 13 rfl rfl)
theorem dX7_sum_15 : decode cX7_sum 15 = .ok (.iload_n 3, 1) := dk_29 (dk_at dksX7_sum_0 15 rfl rfl)
theorem dX7_sum_16 : decode cX7_sum 16 = .ok (.if_icmp .ge 20, 3) := dk_162 0 20 (dk_at dksX7_sum_0 16 rfl rfl)
theorem dX7_sum_19 : decode cX7_sum 19 = .ok (.aload_n 2, 1) := dk_44 (dk_at dksX7_sum_0 19 rfl rfl)
theorem dX7_sum_20 : decode cX7_sum 20 = .ok (.iload 4, 2) := dk_21 4 (dk_at dksX7_sum_0 20 rfl rfl)
theorem dX7_sum_22 : decode cX7_sum 22 = .ok (.iaload, 1) := dk_46 (dk_at dksX7_sum_0 22 rfl rfl)
theorem dX7_sum_23 : decode cX7_sum 23 = .ok (.istore 5, 2) := dk_54 5 (dk_at dksX7_sum_1 0 rfl rfl)
theorem dX7_sum_25 : decode cX7_sum 25 = .ok (.iload_n 1, 1) := dk_27 (dk_at dksX7_sum_1 2 rfl rfl)
theorem dX7_sum_26 : decode cX7_sum 26 = .ok (.iload 5, 2) := dk_21 5 (dk_at dksX7_sum_1 3 rfl rfl)
theorem dX7_sum_28 : decode cX7_sum 28 = .ok (.iadd, 1) := dk_96 (dk_at dksX7_sum_1 5 rfl rfl)
theorem dX7_sum_29 : decode cX7_sum 29 = .ok (.istore_n 1, 1) := dk_60 (dk_at dksX7_sum_1 6 rfl rfl)
theorem dX7_sum_30 : decode cX7_sum 30 = .ok (.iinc 4 1, 3) := dk_132 4 1 (dk_at dksX7_sum_1 7 rfl rfl)
theorem dX7_sum_33 : decode cX7_sum 33 = .ok (.goto (-20), 3) := dk_167 255 236 (dk_at dksX7_sum_1 10 rfl rfl)
theorem dX7_sum_36 : decode cX7_sum 36 = .ok (.iload_n 1, 1) := dk_27 (dk_at dksX7_sum_1 13 rfl rfl)
theorem dX7_sum_37 : decode cX7_sum 37 = .ok (.ireturn, 1) := dk_172 (dk_at dksX7_sum_1 14 rfl rfl)
abbrev cX7_wears : ByteArray := prog_8_method_7_code
def yX7_wears : MethodName := ⟨RX7, "wears", "(I)V"⟩
def dkwX7_wears_3 : List UInt8 := [16, 40, 108, 96, 184, 0, 34, 79, 177]
abbrev dktX7_wears_3 : List UInt8 := dkwX7_wears_3 ++ []
def dkwX7_wears_2 : List UInt8 := [167, 255, 213, 28, 2, 159, 0, 27, 42, 180, 0, 9, 28, 16, 9, 42, 180, 0, 9, 28, 46, 4, 96, 27]
abbrev dktX7_wears_2 : List UInt8 := dkwX7_wears_2 ++ dktX7_wears_3
def dkwX7_wears_1 : List UInt8 := [180, 0, 9, 29, 46, 42, 180, 0, 9, 28, 46, 162, 0, 7, 29, 167, 0, 4, 28, 61, 132, 3, 1]
abbrev dktX7_wears_1 : List UInt8 := dkwX7_wears_1 ++ dktX7_wears_2
def dkwX7_wears_0 : List UInt8 := [2, 61, 3, 62, 29, 16, 8, 162, 0, 43, 42, 29, 182, 0, 30, 154, 0, 27, 28, 2, 159, 0, 18, 42]
abbrev dktX7_wears_0 : List UInt8 := dkwX7_wears_0 ++ dktX7_wears_1
theorem dksX7_wears_0 : cX7_wears.data.toList.drop 0 = dktX7_wears_0 := by decide +kernel
theorem dksX7_wears_1 : cX7_wears.data.toList.drop 24 = dktX7_wears_1 := dk_seg dksX7_wears_0 24 rfl rfl
theorem dksX7_wears_2 : cX7_wears.data.toList.drop 47 = dktX7_wears_2 := dk_seg dksX7_wears_1 23 rfl rfl
theorem dksX7_wears_3 : cX7_wears.data.toList.drop 71 = dktX7_wears_3 := dk_seg dksX7_wears_2 24 rfl rfl
theorem dX7_wears_0 : decode cX7_wears 0 = .ok (.iconst (-1), 1) := dk_2 (dk_at dksX7_wears_0 0 rfl rfl)
theorem dX7_wears_1 : decode cX7_wears 1 = .ok (.istore_n 2, 1) := dk_61 (dk_at dksX7_wears_0 1 rfl rfl)
theorem dX7_wears_2 : decode cX7_wears 2 = .ok (.iconst 0, 1) := dk_3 (dk_at dksX7_wears_0 2 rfl rfl)
theorem dX7_wears_3 : decode cX7_wears 3 = .ok (.istore_n 3, 1) := dk_62 (dk_at dksX7_wears_0 3 rfl rfl)
theorem dX7_wears_4 : decode cX7_wears 4 = .ok (.iload_n 3, 1) := dk_29 (dk_at dksX7_wears_0 4 rfl rfl)
theorem dX7_wears_5 : decode cX7_wears 5 = .ok (.bipush 8, 2) := dk_16 8 (dk_at dksX7_wears_0 5 rfl rfl)
theorem dX7_wears_7 : decode cX7_wears 7 = .ok (.if_icmp .ge 43, 3) := dk_162 0 43 (dk_at dksX7_wears_0 7 rfl rfl)
theorem dX7_wears_10 : decode cX7_wears 10 = .ok (.aload_n 0, 1) := dk_42 (dk_at dksX7_wears_0 10 rfl rfl)
theorem dX7_wears_11 : decode cX7_wears 11 = .ok (.iload_n 3, 1) := dk_29 (dk_at dksX7_wears_0 11 rfl rfl)
theorem dX7_wears_12 : decode cX7_wears 12 = .ok (.invokevirtual 30, 3) := dk_182 0 30 (dk_at dksX7_wears_0 12 rfl rfl)
theorem dX7_wears_15 : decode cX7_wears 15 = .ok (.ifCond .ne 27, 3) := dk_154 0 27 (dk_at dksX7_wears_0 15 rfl rfl)
theorem dX7_wears_18 : decode cX7_wears 18 = .ok (.iload_n 2, 1) := dk_28 (dk_at dksX7_wears_0 18 rfl rfl)
theorem dX7_wears_19 : decode cX7_wears 19 = .ok (.iconst (-1), 1) := dk_2 (dk_at dksX7_wears_0 19 rfl rfl)
theorem dX7_wears_20 : decode cX7_wears 20 = .ok (.if_icmp .eq 18, 3) := dk_159 0 18 (dk_at dksX7_wears_0 20 rfl rfl)
theorem dX7_wears_23 : decode cX7_wears 23 = .ok (.aload_n 0, 1) := dk_42 (dk_at dksX7_wears_0 23 rfl rfl)
theorem dX7_wears_24 : decode cX7_wears 24 = .ok (.getfield 9, 3) := dk_180 0 9 (dk_at dksX7_wears_1 0 rfl rfl)
theorem dX7_wears_27 : decode cX7_wears 27 = .ok (.iload_n 3, 1) := dk_29 (dk_at dksX7_wears_1 3 rfl rfl)
theorem dX7_wears_28 : decode cX7_wears 28 = .ok (.iaload, 1) := dk_46 (dk_at dksX7_wears_1 4 rfl rfl)
theorem dX7_wears_29 : decode cX7_wears 29 = .ok (.aload_n 0, 1) := dk_42 (dk_at dksX7_wears_1 5 rfl rfl)
theorem dX7_wears_30 : decode cX7_wears 30 = .ok (.getfield 9, 3) := dk_180 0 9 (dk_at dksX7_wears_1 6 rfl rfl)
theorem dX7_wears_33 : decode cX7_wears 33 = .ok (.iload_n 2, 1) := dk_28 (dk_at dksX7_wears_1 9 rfl rfl)
theorem dX7_wears_34 : decode cX7_wears 34 = .ok (.iaload, 1) := dk_46 (dk_at dksX7_wears_1 10 rfl rfl)
theorem dX7_wears_35 : decode cX7_wears 35 = .ok (.if_icmp .ge 7, 3) := dk_162 0 7 (dk_at dksX7_wears_1 11 rfl rfl)
theorem dX7_wears_38 : decode cX7_wears 38 = .ok (.iload_n 3, 1) := dk_29 (dk_at dksX7_wears_1 14 rfl rfl)
theorem dX7_wears_39 : decode cX7_wears 39 = .ok (.goto 4, 3) := dk_167 0 4 (dk_at dksX7_wears_1 15 rfl rfl)
theorem dX7_wears_42 : decode cX7_wears 42 = .ok (.iload_n 2, 1) := dk_28 (dk_at dksX7_wears_1 18 rfl rfl)
theorem dX7_wears_43 : decode cX7_wears 43 = .ok (.istore_n 2, 1) := dk_61 (dk_at dksX7_wears_1 19 rfl rfl)
theorem dX7_wears_44 : decode cX7_wears 44 = .ok (.iinc 3 1, 3) := dk_132 3 1 (dk_at dksX7_wears_1 20 rfl rfl)
theorem dX7_wears_47 : decode cX7_wears 47 = .ok (.goto (-43), 3) := dk_167 255 213 (dk_at dksX7_wears_2 0 rfl rfl)
theorem dX7_wears_50 : decode cX7_wears 50 = .ok (.iload_n 2, 1) := dk_28 (dk_at dksX7_wears_2 3 rfl rfl)
theorem dX7_wears_51 : decode cX7_wears 51 = .ok (.iconst (-1), 1) := dk_2 (dk_at dksX7_wears_2 4 rfl rfl)
theorem dX7_wears_52 : decode cX7_wears 52 = .ok (.if_icmp .eq 27, 3) := dk_159 0 27 (dk_at dksX7_wears_2 5 rfl rfl)
theorem dX7_wears_55 : decode cX7_wears 55 = .ok (.aload_n 0, 1) := dk_42 (dk_at dksX7_wears_2 8 rfl rfl)
theorem dX7_wears_56 : decode cX7_wears 56 = .ok (.getfield 9, 3) := dk_180 0 9 (dk_at dksX7_wears_2 9 rfl rfl)
theorem dX7_wears_59 : decode cX7_wears 59 = .ok (.iload_n 2, 1) := dk_28 (dk_at dksX7_wears_2 12 rfl rfl)
theorem dX7_wears_60 : decode cX7_wears 60 = .ok (.bipush 9, 2) := dk_16 9 (dk_at dksX7_wears_2 13 rfl rfl)
theorem dX7_wears_62 : decode cX7_wears 62 = .ok (.aload_n 0, 1) := dk_42 (dk_at dksX7_wears_2 15 rfl rfl)
theorem dX7_wears_63 : decode cX7_wears 63 = .ok (.getfield 9, 3) := dk_180 0 9 (dk_at dksX7_wears_2 16 rfl rfl)
theorem dX7_wears_66 : decode cX7_wears 66 = .ok (.iload_n 2, 1) := dk_28 (dk_at dksX7_wears_2 19 rfl rfl)
theorem dX7_wears_67 : decode cX7_wears 67 = .ok (.iaload, 1) := dk_46 (dk_at dksX7_wears_2 20 rfl rfl)
theorem dX7_wears_68 : decode cX7_wears 68 = .ok (.iconst 1, 1) := dk_4 (dk_at dksX7_wears_2 21 rfl rfl)
theorem dX7_wears_69 : decode cX7_wears 69 = .ok (.iadd, 1) := dk_96 (dk_at dksX7_wears_2 22 rfl rfl)
theorem dX7_wears_70 : decode cX7_wears 70 = .ok (.iload_n 1, 1) := dk_27 (dk_at dksX7_wears_2 23 rfl rfl)
theorem dX7_wears_71 : decode cX7_wears 71 = .ok (.bipush 40, 2) := dk_16 40 (dk_at dksX7_wears_3 0 rfl rfl)
theorem dX7_wears_73 : decode cX7_wears 73 = .ok (.idiv, 1) := dk_108 (dk_at dksX7_wears_3 2 rfl rfl)
theorem dX7_wears_74 : decode cX7_wears 74 = .ok (.iadd, 1) := dk_96 (dk_at dksX7_wears_3 3 rfl rfl)
theorem dX7_wears_75 : decode cX7_wears 75 = .ok (.invokestatic 34, 3) := dk_184 0 34 (dk_at dksX7_wears_3 4 rfl rfl)
theorem dX7_wears_78 : decode cX7_wears 78 = .ok (.iastore, 1) := dk_79 (dk_at dksX7_wears_3 7 rfl rfl)
theorem dX7_wears_79 : decode cX7_wears 79 = .ok (.return_, 1) := dk_177 (dk_at dksX7_wears_3 8 rfl rfl)
theorem q91 : (Jvm.Cond.initialized "JumpHall$Mat") ∈ lw_all := lw_g (lw_at lw_m1 18 rfl) rfl
theorem q804 : (Jvm.Cond.instanceMethod ({ cls := "JumpHall$Mat", name := "copy", desc := "()LJumpHall$Mat;" } : Jvm.MethodName)) ∈ lw_all := lw_g (lw_at lw_m4 11 rfl) rfl
theorem q805 : (Jvm.Cond.selects "JumpHall$Mat" ({ cls := "JumpHall$Mat", name := "copy", desc := "()LJumpHall$Mat;" } : Jvm.MethodName) ({ cls := "JumpHall$Mat", name := "copy", desc := "()LJumpHall$Mat;" } : Jvm.MethodName)) ∈ lw_all := lw_g (lw_at lw_m4 12 rfl) rfl
theorem q806 : (Jvm.Cond.code ({ cls := "JumpHall$Mat", name := "copy", desc := "()LJumpHall$Mat;" } : Jvm.MethodName) prog_8_method_2_code (2 : Nat) (Option.some (Jvm.ClassFile.FieldType.object "JumpHall$Mat"))) ∈ lw_all := lw_g (lw_at lw_m4 13 rfl) rfl
theorem q807 : (Jvm.Cond.classLink "JumpHall$Mat" (10 : Nat) "JumpHall$Mat") ∈ lw_all := lw_g (lw_at lw_m4 14 rfl) rfl
theorem q808 : (Jvm.Cond.instantiable "JumpHall$Mat" (3 : Nat)) ∈ lw_all := lw_g (lw_at lw_m4 15 rfl) rfl
theorem q809 : (Jvm.Cond.methodLink "JumpHall$Mat" (15 : Nat) ({ cls := "JumpHall$Mat", name := "<init>", desc := "()V" } : Jvm.MethodName)) ∈ lw_all := lw_g (lw_at lw_m4 16 rfl) rfl
theorem q810 : (Jvm.Cond.instanceMethod ({ cls := "JumpHall$Mat", name := "<init>", desc := "()V" } : Jvm.MethodName)) ∈ lw_all := lw_g (lw_at lw_m4 17 rfl) rfl
theorem q811 : (Jvm.Cond.code ({ cls := "JumpHall$Mat", name := "<init>", desc := "()V" } : Jvm.MethodName) prog_8_method_1_code (1 : Nat) (Option.none : Option Jvm.ClassFile.FieldType)) ∈ lw_all := lw_g (lw_at lw_m4 18 rfl) rfl
theorem q812 : (Jvm.Cond.methodLink "JumpHall$Mat" (3 : Nat) ({ cls := "java/lang/Object", name := "<init>", desc := "()V" } : Jvm.MethodName)) ∈ lw_all := lw_g (lw_at lw_m4 19 rfl) rfl
theorem q813 : (Jvm.Cond.fieldLink "JumpHall$Mat" (9 : Nat) "JumpHall$Mat" "wear" "[I") ∈ lw_all := lw_g (lw_at lw_m4 20 rfl) rfl
theorem q816 : (Jvm.Cond.fieldLink "JumpHall$Mat" (22 : Nat) "JumpHall$Mat" "isClosed" "Z") ∈ lw_all := lw_g (lw_at lw_m4 23 rfl) rfl
theorem q819 : (Jvm.Cond.fieldLink "JumpHall$Mat" (26 : Nat) "JumpHall$Mat" "ups" "I") ∈ lw_all := lw_g (lw_at lw_m4 26 rfl) rfl
theorem q830 : (Jvm.Cond.methodLink "JumpHall$Mat" (16 : Nat) ({ cls := "java/lang/System", name := "arraycopy", desc := "(Ljava/lang/Object;ILjava/lang/Object;II)V" } : Jvm.MethodName)) ∈ lw_all := lw_g (lw_at lw_m4 37 rfl) rfl
theorem q1844 : (Jvm.Cond.instanceMethod ({ cls := "JumpHall$Mat", name := "bears", desc := "()I" } : Jvm.MethodName)) ∈ lw_all := lw_g (lw_at lw_m8 91 rfl) rfl
theorem q1845 : (Jvm.Cond.selects "JumpHall$Mat" ({ cls := "JumpHall$Mat", name := "bears", desc := "()I" } : Jvm.MethodName) ({ cls := "JumpHall$Mat", name := "bears", desc := "()I" } : Jvm.MethodName)) ∈ lw_all := lw_g (lw_at lw_m8 92 rfl) rfl
theorem q1846 : (Jvm.Cond.code ({ cls := "JumpHall$Mat", name := "bears", desc := "()I" } : Jvm.MethodName) prog_8_method_5_code (3 : Nat) (Option.some Jvm.ClassFile.FieldType.int)) ∈ lw_all := lw_g (lw_at lw_m8 93 rfl) rfl
theorem q1847 : (Jvm.Cond.methodLink "JumpHall$Mat" (30 : Nat) ({ cls := "JumpHall$Mat", name := "isBroken", desc := "(I)Z" } : Jvm.MethodName)) ∈ lw_all := lw_g (lw_at lw_m8 94 rfl) rfl
theorem q1848 : (Jvm.Cond.instanceMethod ({ cls := "JumpHall$Mat", name := "isBroken", desc := "(I)Z" } : Jvm.MethodName)) ∈ lw_all := lw_g (lw_at lw_m8 95 rfl) rfl
theorem q1849 : (Jvm.Cond.selects "JumpHall$Mat" ({ cls := "JumpHall$Mat", name := "isBroken", desc := "(I)Z" } : Jvm.MethodName) ({ cls := "JumpHall$Mat", name := "isBroken", desc := "(I)Z" } : Jvm.MethodName)) ∈ lw_all := lw_g (lw_at lw_m8 96 rfl) rfl
theorem q1850 : (Jvm.Cond.code ({ cls := "JumpHall$Mat", name := "isBroken", desc := "(I)Z" } : Jvm.MethodName) prog_8_method_3_code (2 : Nat) (Option.some Jvm.ClassFile.FieldType.boolean)) ∈ lw_all := lw_g (lw_at lw_m8 97 rfl) rfl
theorem q1888 : (Jvm.Cond.instanceMethod ({ cls := "JumpHall$Mat", name := "broken", desc := "()I" } : Jvm.MethodName)) ∈ lw_all := lw_g (lw_at lw_m8 135 rfl) rfl
theorem q1889 : (Jvm.Cond.selects "JumpHall$Mat" ({ cls := "JumpHall$Mat", name := "broken", desc := "()I" } : Jvm.MethodName) ({ cls := "JumpHall$Mat", name := "broken", desc := "()I" } : Jvm.MethodName)) ∈ lw_all := lw_g (lw_at lw_m8 136 rfl) rfl
theorem q1890 : (Jvm.Cond.code ({ cls := "JumpHall$Mat", name := "broken", desc := "()I" } : Jvm.MethodName) prog_8_method_4_code (3 : Nat) (Option.some Jvm.ClassFile.FieldType.int)) ∈ lw_all := lw_g (lw_at lw_m8 137 rfl) rfl
theorem q1892 : (Jvm.Cond.instanceMethod ({ cls := "JumpHall$Mat", name := "sum", desc := "()I" } : Jvm.MethodName)) ∈ lw_all := lw_g (lw_at lw_m8 139 rfl) rfl
theorem q1893 : (Jvm.Cond.selects "JumpHall$Mat" ({ cls := "JumpHall$Mat", name := "sum", desc := "()I" } : Jvm.MethodName) ({ cls := "JumpHall$Mat", name := "sum", desc := "()I" } : Jvm.MethodName)) ∈ lw_all := lw_g (lw_at lw_m8 140 rfl) rfl
theorem q1894 : (Jvm.Cond.code ({ cls := "JumpHall$Mat", name := "sum", desc := "()I" } : Jvm.MethodName) prog_8_method_6_code (6 : Nat) (Option.some Jvm.ClassFile.FieldType.int)) ∈ lw_all := lw_g (lw_at lw_m8 141 rfl) rfl
theorem q1977 : (Jvm.Cond.instanceMethod ({ cls := "JumpHall$Mat", name := "wears", desc := "(I)V" } : Jvm.MethodName)) ∈ lw_all := lw_g (lw_at lw_m8 224 rfl) rfl
theorem q1978 : (Jvm.Cond.selects "JumpHall$Mat" ({ cls := "JumpHall$Mat", name := "wears", desc := "(I)V" } : Jvm.MethodName) ({ cls := "JumpHall$Mat", name := "wears", desc := "(I)V" } : Jvm.MethodName)) ∈ lw_all := lw_g (lw_at lw_m8 225 rfl) rfl
theorem q1979 : (Jvm.Cond.code ({ cls := "JumpHall$Mat", name := "wears", desc := "(I)V" } : Jvm.MethodName) prog_8_method_7_code (4 : Nat) (Option.none : Option Jvm.ClassFile.FieldType)) ∈ lw_all := lw_g (lw_at lw_m8 226 rfl) rfl
theorem q1980 : (Jvm.Cond.methodLink "JumpHall$Mat" (34 : Nat) ({ cls := "java/lang/Math", name := "min", desc := "(II)I" } : Jvm.MethodName)) ∈ lw_all := lw_g (lw_at lw_m8 227 rfl) rfl
theorem q3510 : (Jvm.Cond.castable "JumpHall$Mat" "java/lang/Object") ∈ lw_tbl := lw_at lw_m15 77 rfl
/-! jdk/internal/util/ArraysSupport -/
def RJ11 : String := "jdk/internal/util/ArraysSupport"
abbrev cJ11_newLength : ByteArray := prog_84_method_27_code
def yJ11_newLength : MethodName := ⟨RJ11, "newLength", "(III)I"⟩
def dkwJ11_newLength_1 : List UInt8 := [184, 0, 201, 172]
abbrev dktJ11_newLength_1 : List UInt8 := dkwJ11_newLength_1 ++ []
def dkwJ11_newLength_0 : List UInt8 := [26, 27, 28, 184, 0, 194, 96, 62, 3, 29, 162, 0, 11, 29, 18, 200, 163, 0, 5, 29, 172, 26, 27]
abbrev dktJ11_newLength_0 : List UInt8 := dkwJ11_newLength_0 ++ dktJ11_newLength_1
theorem dksJ11_newLength_0 : cJ11_newLength.data.toList.drop 0 = dktJ11_newLength_0 := by decide +kernel
theorem dksJ11_newLength_1 : cJ11_newLength.data.toList.drop 23 = dktJ11_newLength_1 := dk_seg dksJ11_newLength_0 23 rfl rfl
theorem dJ11_newLength_0 : decode cJ11_newLength 0 = .ok (.iload_n 0, 1) := dk_26 (dk_at dksJ11_newLength_0 0 rfl rfl)
theorem dJ11_newLength_1 : decode cJ11_newLength 1 = .ok (.iload_n 1, 1) := dk_27 (dk_at dksJ11_newLength_0 1 rfl rfl)
theorem dJ11_newLength_2 : decode cJ11_newLength 2 = .ok (.iload_n 2, 1) := dk_28 (dk_at dksJ11_newLength_0 2 rfl rfl)
theorem dJ11_newLength_3 : decode cJ11_newLength 3 = .ok (.invokestatic 194, 3) := dk_184 0 194 (dk_at dksJ11_newLength_0 3 rfl rfl)
theorem dJ11_newLength_6 : decode cJ11_newLength 6 = .ok (.iadd, 1) := dk_96 (dk_at dksJ11_newLength_0 6 rfl rfl)
theorem dJ11_newLength_7 : decode cJ11_newLength 7 = .ok (.istore_n 3, 1) := dk_62 (dk_at dksJ11_newLength_0 7 rfl rfl)
theorem dJ11_newLength_8 : decode cJ11_newLength 8 = .ok (.iconst 0, 1) := dk_3 (dk_at dksJ11_newLength_0 8 rfl rfl)
theorem dJ11_newLength_9 : decode cJ11_newLength 9 = .ok (.iload_n 3, 1) := dk_29 (dk_at dksJ11_newLength_0 9 rfl rfl)
theorem dJ11_newLength_10 : decode cJ11_newLength 10 = .ok (.if_icmp .ge 11, 3) := dk_162 0 11 (dk_at dksJ11_newLength_0 10 rfl rfl)
theorem dJ11_newLength_13 : decode cJ11_newLength 13 = .ok (.iload_n 3, 1) := dk_29 (dk_at dksJ11_newLength_0 13 rfl rfl)
theorem dJ11_newLength_14 : decode cJ11_newLength 14 = .ok (.ldc 200, 2) := dk_18 200 (dk_at dksJ11_newLength_0 14 rfl rfl)
theorem dJ11_newLength_16 : decode cJ11_newLength 16 = .ok (.if_icmp .gt 5, 3) := dk_163 0 5 (dk_at dksJ11_newLength_0 16 rfl rfl)
theorem dJ11_newLength_19 : decode cJ11_newLength 19 = .ok (.iload_n 3, 1) := dk_29 (dk_at dksJ11_newLength_0 19 rfl rfl)
theorem dJ11_newLength_20 : decode cJ11_newLength 20 = .ok (.ireturn, 1) := dk_172 (dk_at dksJ11_newLength_0 20 rfl rfl)
theorem dJ11_newLength_21 : decode cJ11_newLength 21 = .ok (.iload_n 0, 1) := dk_26 (dk_at dksJ11_newLength_0 21 rfl rfl)
theorem dJ11_newLength_22 : decode cJ11_newLength 22 = .ok (.iload_n 1, 1) := dk_27 (dk_at dksJ11_newLength_0 22 rfl rfl)
theorem dJ11_newLength_23 : decode cJ11_newLength 23 = .ok (.invokestatic 201, 3) := dk_184 0 201 (dk_at dksJ11_newLength_1 0 rfl rfl)
theorem dJ11_newLength_26 : decode cJ11_newLength 26 = .ok (.ireturn, 1) := dk_172 (dk_at dksJ11_newLength_1 3 rfl rfl)
abbrev cJ11_vectorizedHashCode : ByteArray := prog_84_method_4_code
def yJ11_vectorizedHashCode : MethodName := ⟨RJ11, "vectorizedHashCode", "(Ljava/lang/Object;IIII)I"⟩
def dkwJ11_vectorizedHashCode_6 : List UInt8 := [183, 0, 91, 18, 92, 182, 0, 94, 21, 4, 182, 0, 98, 182, 0, 101, 183, 0, 105, 191, 172]
abbrev dktJ11_vectorizedHashCode_6 : List UInt8 := dkwJ11_vectorizedHashCode_6 ++ []
def dkwJ11_vectorizedHashCode_5 : List UInt8 := [167, 0, 44, 29, 42, 192, 0, 82, 27, 28, 184, 0, 84, 167, 0, 31, 187, 0, 87, 89, 187, 0, 89, 89]
abbrev dktJ11_vectorizedHashCode_5 : List UInt8 := dkwJ11_vectorizedHashCode_5 ++ dktJ11_vectorizedHashCode_6
def dkwJ11_vectorizedHashCode_4 : List UInt8 := [29, 42, 192, 0, 60, 27, 28, 184, 0, 75, 167, 0, 57, 29, 42, 192, 0, 77, 27, 28, 184, 0, 79]
abbrev dktJ11_vectorizedHashCode_4 : List UInt8 := dkwJ11_vectorizedHashCode_4 ++ dktJ11_vectorizedHashCode_5
def dkwJ11_vectorizedHashCode_3 : List UInt8 := [192, 0, 60, 27, 28, 184, 0, 66, 167, 0, 83, 29, 42, 192, 0, 69, 27, 28, 184, 0, 71, 167, 0, 70]
abbrev dktJ11_vectorizedHashCode_3 : List UInt8 := dkwJ11_vectorizedHashCode_3 ++ dktJ11_vectorizedHashCode_4
def dkwJ11_vectorizedHashCode_2 : List UInt8 := [29, 42, 192, 0, 60, 27, 28, 184, 0, 62, 167, 0, 103, 42, 193, 0, 60, 153, 0, 16, 29, 42]
abbrev dktJ11_vectorizedHashCode_2 : List UInt8 := dkwJ11_vectorizedHashCode_2 ++ dktJ11_vectorizedHashCode_3
def dkwJ11_vectorizedHashCode_1 : List UInt8 := [170, 0, 0, 0, 0, 127, 0, 0, 0, 4, 0, 0, 0, 10, 0, 0, 0, 42, 0, 0, 0, 55, 0, 0, 0, 127, 0, 0, 0, 127, 0, 0, 0, 88, 0, 0, 0, 101, 0, 0, 0, 114]
abbrev dktJ11_vectorizedHashCode_1 : List UInt8 := dkwJ11_vectorizedHashCode_1 ++ dktJ11_vectorizedHashCode_2
def dkwJ11_vectorizedHashCode_0 : List UInt8 := [21, 4]
abbrev dktJ11_vectorizedHashCode_0 : List UInt8 := dkwJ11_vectorizedHashCode_0 ++ dktJ11_vectorizedHashCode_1
theorem dksJ11_vectorizedHashCode_0 : cJ11_vectorizedHashCode.data.toList.drop 0 = dktJ11_vectorizedHashCode_0 := by decide +kernel
theorem dksJ11_vectorizedHashCode_1 : cJ11_vectorizedHashCode.data.toList.drop 2 = dktJ11_vectorizedHashCode_1 := dk_seg dksJ11_vectorizedHashCode_0 2 rfl rfl
theorem dksJ11_vectorizedHashCode_2 : cJ11_vectorizedHashCode.data.toList.drop 44 = dktJ11_vectorizedHashCode_2 := dk_seg dksJ11_vectorizedHashCode_1 42 rfl rfl
theorem dksJ11_vectorizedHashCode_3 : cJ11_vectorizedHashCode.data.toList.drop 66 = dktJ11_vectorizedHashCode_3 := dk_seg dksJ11_vectorizedHashCode_2 22 rfl rfl
theorem dksJ11_vectorizedHashCode_4 : cJ11_vectorizedHashCode.data.toList.drop 90 = dktJ11_vectorizedHashCode_4 := dk_seg dksJ11_vectorizedHashCode_3 24 rfl rfl
theorem dksJ11_vectorizedHashCode_5 : cJ11_vectorizedHashCode.data.toList.drop 113 = dktJ11_vectorizedHashCode_5 := dk_seg dksJ11_vectorizedHashCode_4 23 rfl rfl
theorem dksJ11_vectorizedHashCode_6 : cJ11_vectorizedHashCode.data.toList.drop 137 = dktJ11_vectorizedHashCode_6 := dk_seg dksJ11_vectorizedHashCode_5 24 rfl rfl
theorem dJ11_vectorizedHashCode_0 : decode cJ11_vectorizedHashCode 0 = .ok (.iload 4, 2) := dk_21 4 (dk_at dksJ11_vectorizedHashCode_0 0 rfl rfl)
theorem dJ11_vectorizedHashCode_2 : decode cJ11_vectorizedHashCode 2 = .ok (.tableswitch 127 4 10 #[42, 55, 127, 127, 88, 101, 114], 42) := by decide +kernel
theorem dJ11_vectorizedHashCode_44 : decode cJ11_vectorizedHashCode 44 = .ok (.iload_n 3, 1) := dk_29 (dk_at dksJ11_vectorizedHashCode_2 0 rfl rfl)
theorem dJ11_vectorizedHashCode_45 : decode cJ11_vectorizedHashCode 45 = .ok (.aload_n 0, 1) := dk_42 (dk_at dksJ11_vectorizedHashCode_2 1 rfl rfl)
theorem dJ11_vectorizedHashCode_46 : decode cJ11_vectorizedHashCode 46 = .ok (.checkcast 60, 3) := dk_192 0 60 (dk_at dksJ11_vectorizedHashCode_2 2 rfl rfl)
theorem dJ11_vectorizedHashCode_49 : decode cJ11_vectorizedHashCode 49 = .ok (.iload_n 1, 1) := dk_27 (dk_at dksJ11_vectorizedHashCode_2 5 rfl rfl)
theorem dJ11_vectorizedHashCode_50 : decode cJ11_vectorizedHashCode 50 = .ok (.iload_n 2, 1) := dk_28 (dk_at dksJ11_vectorizedHashCode_2 6 rfl rfl)
theorem dJ11_vectorizedHashCode_51 : decode cJ11_vectorizedHashCode 51 = .ok (.invokestatic 62, 3) := dk_184 0 62 (dk_at dksJ11_vectorizedHashCode_2 7 rfl rfl)
theorem dJ11_vectorizedHashCode_54 : decode cJ11_vectorizedHashCode 54 = .ok (.goto 103, 3) := dk_167 0 103 (dk_at dksJ11_vectorizedHashCode_2 10 rfl rfl)
theorem dJ11_vectorizedHashCode_57 : decode cJ11_vectorizedHashCode 57 = .ok (.aload_n 0, 1) := dk_42 (dk_at dksJ11_vectorizedHashCode_2 13 rfl rfl)
theorem dJ11_vectorizedHashCode_58 : decode cJ11_vectorizedHashCode 58 = .ok (.instanceof 60, 3) := dk_193 0 60 (dk_at dksJ11_vectorizedHashCode_2 14 rfl rfl)
theorem dJ11_vectorizedHashCode_61 : decode cJ11_vectorizedHashCode 61 = .ok (.ifCond .eq 16, 3) := dk_153 0 16 (dk_at dksJ11_vectorizedHashCode_2 17 rfl rfl)
theorem dJ11_vectorizedHashCode_64 : decode cJ11_vectorizedHashCode 64 = .ok (.iload_n 3, 1) := dk_29 (dk_at dksJ11_vectorizedHashCode_2 20 rfl rfl)
theorem dJ11_vectorizedHashCode_65 : decode cJ11_vectorizedHashCode 65 = .ok (.aload_n 0, 1) := dk_42 (dk_at dksJ11_vectorizedHashCode_2 21 rfl rfl)
theorem dJ11_vectorizedHashCode_66 : decode cJ11_vectorizedHashCode 66 = .ok (.checkcast 60, 3) := dk_192 0 60 (dk_at dksJ11_vectorizedHashCode_3 0 rfl rfl)
theorem dJ11_vectorizedHashCode_69 : decode cJ11_vectorizedHashCode 69 = .ok (.iload_n 1, 1) := dk_27 (dk_at dksJ11_vectorizedHashCode_3 3 rfl rfl)
theorem dJ11_vectorizedHashCode_70 : decode cJ11_vectorizedHashCode 70 = .ok (.iload_n 2, 1) := dk_28 (dk_at dksJ11_vectorizedHashCode_3 4 rfl rfl)
theorem dJ11_vectorizedHashCode_71 : decode cJ11_vectorizedHashCode 71 = .ok (.invokestatic 66, 3) := dk_184 0 66 (dk_at dksJ11_vectorizedHashCode_3 5 rfl rfl)
theorem dJ11_vectorizedHashCode_74 : decode cJ11_vectorizedHashCode 74 = .ok (.goto 83, 3) := dk_167 0 83 (dk_at dksJ11_vectorizedHashCode_3 8 rfl rfl)
theorem dJ11_vectorizedHashCode_77 : decode cJ11_vectorizedHashCode 77 = .ok (.iload_n 3, 1) := dk_29 (dk_at dksJ11_vectorizedHashCode_3 11 rfl rfl)
theorem dJ11_vectorizedHashCode_78 : decode cJ11_vectorizedHashCode 78 = .ok (.aload_n 0, 1) := dk_42 (dk_at dksJ11_vectorizedHashCode_3 12 rfl rfl)
theorem dJ11_vectorizedHashCode_79 : decode cJ11_vectorizedHashCode 79 = .ok (.checkcast 69, 3) := dk_192 0 69 (dk_at dksJ11_vectorizedHashCode_3 13 rfl rfl)
theorem dJ11_vectorizedHashCode_82 : decode cJ11_vectorizedHashCode 82 = .ok (.iload_n 1, 1) := dk_27 (dk_at dksJ11_vectorizedHashCode_3 16 rfl rfl)
theorem dJ11_vectorizedHashCode_83 : decode cJ11_vectorizedHashCode 83 = .ok (.iload_n 2, 1) := dk_28 (dk_at dksJ11_vectorizedHashCode_3 17 rfl rfl)
theorem dJ11_vectorizedHashCode_84 : decode cJ11_vectorizedHashCode 84 = .ok (.invokestatic 71, 3) := dk_184 0 71 (dk_at dksJ11_vectorizedHashCode_3 18 rfl rfl)
theorem dJ11_vectorizedHashCode_87 : decode cJ11_vectorizedHashCode 87 = .ok (.goto 70, 3) := dk_167 0 70 (dk_at dksJ11_vectorizedHashCode_3 21 rfl rfl)
theorem dJ11_vectorizedHashCode_90 : decode cJ11_vectorizedHashCode 90 = .ok (.iload_n 3, 1) := dk_29 (dk_at dksJ11_vectorizedHashCode_4 0 rfl rfl)
theorem dJ11_vectorizedHashCode_91 : decode cJ11_vectorizedHashCode 91 = .ok (.aload_n 0, 1) := dk_42 (dk_at dksJ11_vectorizedHashCode_4 1 rfl rfl)
theorem dJ11_vectorizedHashCode_92 : decode cJ11_vectorizedHashCode 92 = .ok (.checkcast 60, 3) := dk_192 0 60 (dk_at dksJ11_vectorizedHashCode_4 2 rfl rfl)
theorem dJ11_vectorizedHashCode_95 : decode cJ11_vectorizedHashCode 95 = .ok (.iload_n 1, 1) := dk_27 (dk_at dksJ11_vectorizedHashCode_4 5 rfl rfl)
theorem dJ11_vectorizedHashCode_96 : decode cJ11_vectorizedHashCode 96 = .ok (.iload_n 2, 1) := dk_28 (dk_at dksJ11_vectorizedHashCode_4 6 rfl rfl)
theorem dJ11_vectorizedHashCode_97 : decode cJ11_vectorizedHashCode 97 = .ok (.invokestatic 75, 3) := dk_184 0 75 (dk_at dksJ11_vectorizedHashCode_4 7 rfl rfl)
theorem dJ11_vectorizedHashCode_100 : decode cJ11_vectorizedHashCode 100 = .ok (.goto 57, 3) := dk_167 0 57 (dk_at dksJ11_vectorizedHashCode_4 10 rfl rfl)
theorem dJ11_vectorizedHashCode_103 : decode cJ11_vectorizedHashCode 103 = .ok (.iload_n 3, 1) := dk_29 (dk_at dksJ11_vectorizedHashCode_4 13 rfl rfl)
theorem dJ11_vectorizedHashCode_104 : decode cJ11_vectorizedHashCode 104 = .ok (.aload_n 0, 1) := dk_42 (dk_at dksJ11_vectorizedHashCode_4 14 rfl rfl)
theorem dJ11_vectorizedHashCode_105 : decode cJ11_vectorizedHashCode 105 = .ok (.checkcast 77, 3) := dk_192 0 77 (dk_at dksJ11_vectorizedHashCode_4 15 rfl rfl)
theorem dJ11_vectorizedHashCode_108 : decode cJ11_vectorizedHashCode 108 = .ok (.iload_n 1, 1) := dk_27 (dk_at dksJ11_vectorizedHashCode_4 18 rfl rfl)
theorem dJ11_vectorizedHashCode_109 : decode cJ11_vectorizedHashCode 109 = .ok (.iload_n 2, 1) := dk_28 (dk_at dksJ11_vectorizedHashCode_4 19 rfl rfl)
theorem dJ11_vectorizedHashCode_110 : decode cJ11_vectorizedHashCode 110 = .ok (.invokestatic 79, 3) := dk_184 0 79 (dk_at dksJ11_vectorizedHashCode_4 20 rfl rfl)
theorem dJ11_vectorizedHashCode_113 : decode cJ11_vectorizedHashCode 113 = .ok (.goto 44, 3) := dk_167 0 44 (dk_at dksJ11_vectorizedHashCode_5 0 rfl rfl)
theorem dJ11_vectorizedHashCode_116 : decode cJ11_vectorizedHashCode 116 = .ok (.iload_n 3, 1) := dk_29 (dk_at dksJ11_vectorizedHashCode_5 3 rfl rfl)
theorem dJ11_vectorizedHashCode_117 : decode cJ11_vectorizedHashCode 117 = .ok (.aload_n 0, 1) := dk_42 (dk_at dksJ11_vectorizedHashCode_5 4 rfl rfl)
theorem dJ11_vectorizedHashCode_118 : decode cJ11_vectorizedHashCode 118 = .ok (.checkcast 82, 3) := dk_192 0 82 (dk_at dksJ11_vectorizedHashCode_5 5 rfl rfl)
theorem dJ11_vectorizedHashCode_121 : decode cJ11_vectorizedHashCode 121 = .ok (.iload_n 1, 1) := dk_27 (dk_at dksJ11_vectorizedHashCode_5 8 rfl rfl)
theorem dJ11_vectorizedHashCode_122 : decode cJ11_vectorizedHashCode 122 = .ok (.iload_n 2, 1) := dk_28 (dk_at dksJ11_vectorizedHashCode_5 9 rfl rfl)
theorem dJ11_vectorizedHashCode_123 : decode cJ11_vectorizedHashCode 123 = .ok (.invokestatic 84, 3) := dk_184 0 84 (dk_at dksJ11_vectorizedHashCode_5 10 rfl rfl)
theorem dJ11_vectorizedHashCode_126 : decode cJ11_vectorizedHashCode 126 = .ok (.goto 31, 3) := dk_167 0 31 (dk_at dksJ11_vectorizedHashCode_5 13 rfl rfl)
theorem dJ11_vectorizedHashCode_129 : decode cJ11_vectorizedHashCode 129 = .ok (.new 87, 3) := dk_187 0 87 (dk_at dksJ11_vectorizedHashCode_5 16 rfl rfl)
theorem dJ11_vectorizedHashCode_132 : decode cJ11_vectorizedHashCode 132 = .ok (.dup, 1) := dk_89 (dk_at dksJ11_vectorizedHashCode_5 19 rfl rfl)
theorem dJ11_vectorizedHashCode_133 : decode cJ11_vectorizedHashCode 133 = .ok (.new 89, 3) := dk_187 0 89 (dk_at dksJ11_vectorizedHashCode_5 20 rfl rfl)
theorem dJ11_vectorizedHashCode_136 : decode cJ11_vectorizedHashCode 136 = .ok (.dup, 1) := dk_89 (dk_at dksJ11_vectorizedHashCode_5 23 rfl rfl)
theorem dJ11_vectorizedHashCode_137 : decode cJ11_vectorizedHashCode 137 = .ok (.invokespecial 91, 3) := dk_183 0 91 (dk_at dksJ11_vectorizedHashCode_6 0 rfl rfl)
theorem dJ11_vectorizedHashCode_140 : decode cJ11_vectorizedHashCode 140 = .ok (.ldc 92, 2) := dk_18 92 (dk_at dksJ11_vectorizedHashCode_6 3 rfl rfl)
theorem dJ11_vectorizedHashCode_142 : decode cJ11_vectorizedHashCode 142 = .ok (.invokevirtual 94, 3) := dk_182 0 94 (dk_at dksJ11_vectorizedHashCode_6 5 rfl rfl)
theorem dJ11_vectorizedHashCode_145 : decode cJ11_vectorizedHashCode 145 = .ok (.iload 4, 2) := dk_21 4 (dk_at dksJ11_vectorizedHashCode_6 8 rfl rfl)
theorem dJ11_vectorizedHashCode_147 : decode cJ11_vectorizedHashCode 147 = .ok (.invokevirtual 98, 3) := dk_182 0 98 (dk_at dksJ11_vectorizedHashCode_6 10 rfl rfl)
theorem dJ11_vectorizedHashCode_150 : decode cJ11_vectorizedHashCode 150 = .ok (.invokevirtual 101, 3) := dk_182 0 101 (dk_at dksJ11_vectorizedHashCode_6 13 rfl rfl)
theorem dJ11_vectorizedHashCode_153 : decode cJ11_vectorizedHashCode 153 = .ok (.invokespecial 105, 3) := dk_183 0 105 (dk_at dksJ11_vectorizedHashCode_6 16 rfl rfl)
theorem dJ11_vectorizedHashCode_156 : decode cJ11_vectorizedHashCode 156 = .ok (.athrow, 1) := dk_191 (dk_at dksJ11_vectorizedHashCode_6 19 rfl rfl)
theorem dJ11_vectorizedHashCode_157 : decode cJ11_vectorizedHashCode 157 = .ok (.ireturn, 1) := dk_172 (dk_at dksJ11_vectorizedHashCode_6 20 rfl rfl)
abbrev cJ11_signedHashCode : ByteArray := prog_84_method_5_code
def yJ11_signedHashCode : MethodName := ⟨RJ11, "signedHashCode", "(I[BII)I"⟩
def dkwJ11_signedHashCode_1 : List UInt8 := [17, 0, 255, 126, 96, 59, 132, 5, 1, 167, 255, 232, 26, 172]
abbrev dktJ11_signedHashCode_1 : List UInt8 := dkwJ11_signedHashCode_1 ++ []
def dkwJ11_signedHashCode_0 : List UInt8 := [28, 29, 96, 54, 4, 28, 54, 5, 21, 5, 21, 4, 162, 0, 23, 16, 31, 26, 104, 43, 21, 5, 51]
abbrev dktJ11_signedHashCode_0 : List UInt8 := dkwJ11_signedHashCode_0 ++ dktJ11_signedHashCode_1
theorem dksJ11_signedHashCode_0 : cJ11_signedHashCode.data.toList.drop 0 = dktJ11_signedHashCode_0 := by decide +kernel
theorem dksJ11_signedHashCode_1 : cJ11_signedHashCode.data.toList.drop 23 = dktJ11_signedHashCode_1 := dk_seg dksJ11_signedHashCode_0 23 rfl rfl
theorem dJ11_signedHashCode_0 : decode cJ11_signedHashCode 0 = .ok (.iload_n 2, 1) := dk_28 (dk_at dksJ11_signedHashCode_0 0 rfl rfl)
theorem dJ11_signedHashCode_1 : decode cJ11_signedHashCode 1 = .ok (.iload_n 3, 1) := dk_29 (dk_at dksJ11_signedHashCode_0 1 rfl rfl)
theorem dJ11_signedHashCode_2 : decode cJ11_signedHashCode 2 = .ok (.iadd, 1) := dk_96 (dk_at dksJ11_signedHashCode_0 2 rfl rfl)
theorem dJ11_signedHashCode_3 : decode cJ11_signedHashCode 3 = .ok (.istore 4, 2) := dk_54 4 (dk_at dksJ11_signedHashCode_0 3 rfl rfl)
theorem dJ11_signedHashCode_5 : decode cJ11_signedHashCode 5 = .ok (.iload_n 2, 1) := dk_28 (dk_at dksJ11_signedHashCode_0 5 rfl rfl)
theorem dJ11_signedHashCode_6 : decode cJ11_signedHashCode 6 = .ok (.istore 5, 2) := dk_54 5 (dk_at dksJ11_signedHashCode_0 6 rfl rfl)
theorem dJ11_signedHashCode_8 : decode cJ11_signedHashCode 8 = .ok (.iload 5, 2) := dk_21 5 (dk_at dksJ11_signedHashCode_0 8 rfl rfl)
theorem dJ11_signedHashCode_10 : decode cJ11_signedHashCode 10 = .ok (.iload 4, 2) := dk_21 4 (dk_at dksJ11_signedHashCode_0 10 rfl rfl)
theorem dJ11_signedHashCode_12 : decode cJ11_signedHashCode 12 = .ok (.if_icmp .ge 23, 3) := dk_162 0 23 (dk_at dksJ11_signedHashCode_0 12 rfl rfl)
theorem dJ11_signedHashCode_15 : decode cJ11_signedHashCode 15 = .ok (.bipush 31, 2) := dk_16 31 (dk_at dksJ11_signedHashCode_0 15 rfl rfl)
theorem dJ11_signedHashCode_17 : decode cJ11_signedHashCode 17 = .ok (.iload_n 0, 1) := dk_26 (dk_at dksJ11_signedHashCode_0 17 rfl rfl)
theorem dJ11_signedHashCode_18 : decode cJ11_signedHashCode 18 = .ok (.imul, 1) := dk_104 (dk_at dksJ11_signedHashCode_0 18 rfl rfl)
theorem dJ11_signedHashCode_19 : decode cJ11_signedHashCode 19 = .ok (.aload_n 1, 1) := dk_43 (dk_at dksJ11_signedHashCode_0 19 rfl rfl)
theorem dJ11_signedHashCode_20 : decode cJ11_signedHashCode 20 = .ok (.iload 5, 2) := dk_21 5 (dk_at dksJ11_signedHashCode_0 20 rfl rfl)
theorem dJ11_signedHashCode_22 : decode cJ11_signedHashCode 22 = .ok (.baload, 1) := dk_51 (dk_at dksJ11_signedHashCode_0 22 rfl rfl)
theorem dJ11_signedHashCode_23 : decode cJ11_signedHashCode 23 = .ok (.sipush 255, 3) := dk_17 0 255 (dk_at dksJ11_signedHashCode_1 0 rfl rfl)
theorem dJ11_signedHashCode_26 : decode cJ11_signedHashCode 26 = .ok (.iand, 1) := dk_126 (dk_at dksJ11_signedHashCode_1 3 rfl rfl)
theorem dJ11_signedHashCode_27 : decode cJ11_signedHashCode 27 = .ok (.iadd, 1) := dk_96 (dk_at dksJ11_signedHashCode_1 4 rfl rfl)
theorem dJ11_signedHashCode_28 : decode cJ11_signedHashCode 28 = .ok (.istore_n 0, 1) := dk_59 (dk_at dksJ11_signedHashCode_1 5 rfl rfl)
theorem dJ11_signedHashCode_29 : decode cJ11_signedHashCode 29 = .ok (.iinc 5 1, 3) := dk_132 5 1 (dk_at dksJ11_signedHashCode_1 6 rfl rfl)
theorem dJ11_signedHashCode_32 : decode cJ11_signedHashCode 32 = .ok (.goto (-24), 3) := dk_167 255 232 (dk_at dksJ11_signedHashCode_1 9 rfl rfl)
theorem dJ11_signedHashCode_35 : decode cJ11_signedHashCode 35 = .ok (.iload_n 0, 1) := dk_26 (dk_at dksJ11_signedHashCode_1 12 rfl rfl)
theorem dJ11_signedHashCode_36 : decode cJ11_signedHashCode 36 = .ok (.ireturn, 1) := dk_172 (dk_at dksJ11_signedHashCode_1 13 rfl rfl)
abbrev cJ11_hashCode_2 : ByteArray := prog_84_method_6_code
def yJ11_hashCode_2 : MethodName := ⟨RJ11, "hashCode", "(I[BII)I"⟩
def dkwJ11_hashCode_2_1 : List UInt8 := [59, 132, 5, 1, 167, 255, 236, 26, 172]
abbrev dktJ11_hashCode_2_1 : List UInt8 := dkwJ11_hashCode_2_1 ++ []
def dkwJ11_hashCode_2_0 : List UInt8 := [28, 29, 96, 54, 4, 28, 54, 5, 21, 5, 21, 4, 162, 0, 19, 16, 31, 26, 104, 43, 21, 5, 51, 96]
abbrev dktJ11_hashCode_2_0 : List UInt8 := dkwJ11_hashCode_2_0 ++ dktJ11_hashCode_2_1
theorem dksJ11_hashCode_2_0 : cJ11_hashCode_2.data.toList.drop 0 = dktJ11_hashCode_2_0 := by decide +kernel
theorem dksJ11_hashCode_2_1 : cJ11_hashCode_2.data.toList.drop 24 = dktJ11_hashCode_2_1 := dk_seg dksJ11_hashCode_2_0 24 rfl rfl
theorem dJ11_hashCode_2_0 : decode cJ11_hashCode_2 0 = .ok (.iload_n 2, 1) := dk_28 (dk_at dksJ11_hashCode_2_0 0 rfl rfl)
theorem dJ11_hashCode_2_1 : decode cJ11_hashCode_2 1 = .ok (.iload_n 3, 1) := dk_29 (dk_at dksJ11_hashCode_2_0 1 rfl rfl)
theorem dJ11_hashCode_2_2 : decode cJ11_hashCode_2 2 = .ok (.iadd, 1) := dk_96 (dk_at dksJ11_hashCode_2_0 2 rfl rfl)
theorem dJ11_hashCode_2_3 : decode cJ11_hashCode_2 3 = .ok (.istore 4, 2) := dk_54 4 (dk_at dksJ11_hashCode_2_0 3 rfl rfl)
theorem dJ11_hashCode_2_5 : decode cJ11_hashCode_2 5 = .ok (.iload_n 2, 1) := dk_28 (dk_at dksJ11_hashCode_2_0 5 rfl rfl)
theorem dJ11_hashCode_2_6 : decode cJ11_hashCode_2 6 = .ok (.istore 5, 2) := dk_54 5 (dk_at dksJ11_hashCode_2_0 6 rfl rfl)
theorem dJ11_hashCode_2_8 : decode cJ11_hashCode_2 8 = .ok (.iload 5, 2) := dk_21 5 (dk_at dksJ11_hashCode_2_0 8 rfl rfl)
theorem dJ11_hashCode_2_10 : decode cJ11_hashCode_2 10 = .ok (.iload 4, 2) := dk_21 4 (dk_at dksJ11_hashCode_2_0 10 rfl rfl)
theorem dJ11_hashCode_2_12 : decode cJ11_hashCode_2 12 = .ok (.if_icmp .ge 19, 3) := dk_162 0 19 (dk_at dksJ11_hashCode_2_0 12 rfl rfl)
theorem dJ11_hashCode_2_15 : decode cJ11_hashCode_2 15 = .ok (.bipush 31, 2) := dk_16 31 (dk_at dksJ11_hashCode_2_0 15 rfl rfl)
theorem dJ11_hashCode_2_17 : decode cJ11_hashCode_2 17 = .ok (.iload_n 0, 1) := dk_26 (dk_at dksJ11_hashCode_2_0 17 rfl rfl)
theorem dJ11_hashCode_2_18 : decode cJ11_hashCode_2 18 = .ok (.imul, 1) := dk_104 (dk_at dksJ11_hashCode_2_0 18 rfl rfl)
theorem dJ11_hashCode_2_19 : decode cJ11_hashCode_2 19 = .ok (.aload_n 1, 1) := dk_43 (dk_at dksJ11_hashCode_2_0 19 rfl rfl)
theorem dJ11_hashCode_2_20 : decode cJ11_hashCode_2 20 = .ok (.iload 5, 2) := dk_21 5 (dk_at dksJ11_hashCode_2_0 20 rfl rfl)
theorem dJ11_hashCode_2_22 : decode cJ11_hashCode_2 22 = .ok (.baload, 1) := dk_51 (dk_at dksJ11_hashCode_2_0 22 rfl rfl)
theorem dJ11_hashCode_2_23 : decode cJ11_hashCode_2 23 = .ok (.iadd, 1) := dk_96 (dk_at dksJ11_hashCode_2_0 23 rfl rfl)
theorem dJ11_hashCode_2_24 : decode cJ11_hashCode_2 24 = .ok (.istore_n 0, 1) := dk_59 (dk_at dksJ11_hashCode_2_1 0 rfl rfl)
theorem dJ11_hashCode_2_25 : decode cJ11_hashCode_2 25 = .ok (.iinc 5 1, 3) := dk_132 5 1 (dk_at dksJ11_hashCode_2_1 1 rfl rfl)
theorem dJ11_hashCode_2_28 : decode cJ11_hashCode_2 28 = .ok (.goto (-20), 3) := dk_167 255 236 (dk_at dksJ11_hashCode_2_1 4 rfl rfl)
theorem dJ11_hashCode_2_31 : decode cJ11_hashCode_2 31 = .ok (.iload_n 0, 1) := dk_26 (dk_at dksJ11_hashCode_2_1 7 rfl rfl)
theorem dJ11_hashCode_2_32 : decode cJ11_hashCode_2 32 = .ok (.ireturn, 1) := dk_172 (dk_at dksJ11_hashCode_2_1 8 rfl rfl)
abbrev cJ11_mismatch_2 : ByteArray := prog_84_method_14_code
def yJ11_mismatch_2 : MethodName := ⟨RJ11, "mismatch", "([BI[BII)I"⟩
def dkwJ11_mismatch_2_4 : List UInt8 := [132, 5, 1, 167, 255, 228, 2, 172]
abbrev dktJ11_mismatch_2_4 : List UInt8 := dkwJ11_mismatch_2_4 ++ []
def dkwJ11_mismatch_2_3 : List UInt8 := [21, 4, 162, 0, 27, 42, 27, 21, 5, 96, 51, 44, 29, 21, 5, 96, 51, 159, 0, 6, 21, 5, 172]
abbrev dktJ11_mismatch_2_3 : List UInt8 := dkwJ11_mismatch_2_3 ++ dktJ11_mismatch_2_4
def dkwJ11_mismatch_2_2 : List UInt8 := [184, 0, 122, 54, 5, 21, 5, 155, 0, 6, 21, 5, 172, 21, 4, 21, 5, 2, 130, 100, 54, 5, 21, 5]
abbrev dktJ11_mismatch_2_2 : List UInt8 := dkwJ11_mismatch_2_2 ++ dktJ11_mismatch_2_3
def dkwJ11_mismatch_2_1 : List UInt8 := [27, 96, 54, 6, 178, 0, 126, 29, 96, 54, 7, 42, 21, 6, 133, 44, 21, 7, 133, 21, 4, 178, 0, 129]
abbrev dktJ11_mismatch_2_1 : List UInt8 := dkwJ11_mismatch_2_1 ++ dktJ11_mismatch_2_2
def dkwJ11_mismatch_2_0 : List UInt8 := [3, 54, 5, 21, 4, 16, 7, 164, 0, 63, 42, 27, 51, 44, 29, 51, 159, 0, 5, 3, 172, 178, 0, 126]
abbrev dktJ11_mismatch_2_0 : List UInt8 := dkwJ11_mismatch_2_0 ++ dktJ11_mismatch_2_1
theorem dksJ11_mismatch_2_0 : cJ11_mismatch_2.data.toList.drop 0 = dktJ11_mismatch_2_0 := by decide +kernel
theorem dksJ11_mismatch_2_1 : cJ11_mismatch_2.data.toList.drop 24 = dktJ11_mismatch_2_1 := dk_seg dksJ11_mismatch_2_0 24 rfl rfl
theorem dksJ11_mismatch_2_2 : cJ11_mismatch_2.data.toList.drop 48 = dktJ11_mismatch_2_2 := dk_seg dksJ11_mismatch_2_1 24 rfl rfl
theorem dksJ11_mismatch_2_3 : cJ11_mismatch_2.data.toList.drop 72 = dktJ11_mismatch_2_3 := dk_seg dksJ11_mismatch_2_2 24 rfl rfl
theorem dksJ11_mismatch_2_4 : cJ11_mismatch_2.data.toList.drop 95 = dktJ11_mismatch_2_4 := dk_seg dksJ11_mismatch_2_3 23 rfl rfl
theorem dJ11_mismatch_2_0 : decode cJ11_mismatch_2 0 = .ok (.iconst 0, 1) := dk_3 (dk_at dksJ11_mismatch_2_0 0 rfl rfl)
theorem dJ11_mismatch_2_1 : decode cJ11_mismatch_2 1 = .ok (.istore 5, 2) := dk_54 5 (dk_at dksJ11_mismatch_2_0 1 rfl rfl)
theorem dJ11_mismatch_2_3 : decode cJ11_mismatch_2 3 = .ok (.iload 4, 2) := dk_21 4 (dk_at dksJ11_mismatch_2_0 3 rfl rfl)
theorem dJ11_mismatch_2_5 : decode cJ11_mismatch_2 5 = .ok (.bipush 7, 2) := dk_16 7 (dk_at dksJ11_mismatch_2_0 5 rfl rfl)
theorem dJ11_mismatch_2_7 : decode cJ11_mismatch_2 7 = .ok (.if_icmp .le 63, 3) := dk_164 0 63 (dk_at dksJ11_mismatch_2_0 7 rfl rfl)
theorem dJ11_mismatch_2_10 : decode cJ11_mismatch_2 10 = .ok (.aload_n 0, 1) := dk_42 (dk_at dksJ11_mismatch_2_0 10 rfl rfl)
theorem dJ11_mismatch_2_11 : decode cJ11_mismatch_2 11 = .ok (.iload_n 1, 1) := dk_27 (dk_at dksJ11_mismatch_2_0 11 rfl rfl)
theorem dJ11_mismatch_2_12 : decode cJ11_mismatch_2 12 = .ok (.baload, 1) := dk_51 (dk_at dksJ11_mismatch_2_0 12 rfl rfl)
theorem dJ11_mismatch_2_13 : decode cJ11_mismatch_2 13 = .ok (.aload_n 2, 1) := dk_44 (dk_at dksJ11_mismatch_2_0 13 rfl rfl)
theorem dJ11_mismatch_2_14 : decode cJ11_mismatch_2 14 = .ok (.iload_n 3, 1) := dk_29 (dk_at dksJ11_mismatch_2_0 14 rfl rfl)
theorem dJ11_mismatch_2_15 : decode cJ11_mismatch_2 15 = .ok (.baload, 1) := dk_51 (dk_at dksJ11_mismatch_2_0 15 rfl rfl)
theorem dJ11_mismatch_2_16 : decode cJ11_mismatch_2 16 = .ok (.if_icmp .eq 5, 3) := dk_159 0 5 (dk_at dksJ11_mismatch_2_0 16 rfl rfl)
theorem dJ11_mismatch_2_19 : decode cJ11_mismatch_2 19 = .ok (.iconst 0, 1) := dk_3 (dk_at dksJ11_mismatch_2_0 19 rfl rfl)
theorem dJ11_mismatch_2_20 : decode cJ11_mismatch_2 20 = .ok (.ireturn, 1) := dk_172 (dk_at dksJ11_mismatch_2_0 20 rfl rfl)
theorem dJ11_mismatch_2_21 : decode cJ11_mismatch_2 21 = .ok (.getstatic 126, 3) := dk_178 0 126 (dk_at dksJ11_mismatch_2_0 21 rfl rfl)
theorem dJ11_mismatch_2_24 : decode cJ11_mismatch_2 24 = .ok (.iload_n 1, 1) := dk_27 (dk_at dksJ11_mismatch_2_1 0 rfl rfl)
theorem dJ11_mismatch_2_25 : decode cJ11_mismatch_2 25 = .ok (.iadd, 1) := dk_96 (dk_at dksJ11_mismatch_2_1 1 rfl rfl)
theorem dJ11_mismatch_2_26 : decode cJ11_mismatch_2 26 = .ok (.istore 6, 2) := dk_54 6 (dk_at dksJ11_mismatch_2_1 2 rfl rfl)
theorem dJ11_mismatch_2_28 : decode cJ11_mismatch_2 28 = .ok (.getstatic 126, 3) := dk_178 0 126 (dk_at dksJ11_mismatch_2_1 4 rfl rfl)
theorem dJ11_mismatch_2_31 : decode cJ11_mismatch_2 31 = .ok (.iload_n 3, 1) := dk_29 (dk_at dksJ11_mismatch_2_1 7 rfl rfl)
theorem dJ11_mismatch_2_32 : decode cJ11_mismatch_2 32 = .ok (.iadd, 1) := dk_96 (dk_at dksJ11_mismatch_2_1 8 rfl rfl)
theorem dJ11_mismatch_2_33 : decode cJ11_mismatch_2 33 = .ok (.istore 7, 2) := dk_54 7 (dk_at dksJ11_mismatch_2_1 9 rfl rfl)
theorem dJ11_mismatch_2_35 : decode cJ11_mismatch_2 35 = .ok (.aload_n 0, 1) := dk_42 (dk_at dksJ11_mismatch_2_1 11 rfl rfl)
theorem dJ11_mismatch_2_36 : decode cJ11_mismatch_2 36 = .ok (.iload 6, 2) := dk_21 6 (dk_at dksJ11_mismatch_2_1 12 rfl rfl)
theorem dJ11_mismatch_2_38 : decode cJ11_mismatch_2 38 = .ok (.i2l, 1) := dk_133 (dk_at dksJ11_mismatch_2_1 14 rfl rfl)
theorem dJ11_mismatch_2_39 : decode cJ11_mismatch_2 39 = .ok (.aload_n 2, 1) := dk_44 (dk_at dksJ11_mismatch_2_1 15 rfl rfl)
theorem dJ11_mismatch_2_40 : decode cJ11_mismatch_2 40 = .ok (.iload 7, 2) := dk_21 7 (dk_at dksJ11_mismatch_2_1 16 rfl rfl)
theorem dJ11_mismatch_2_42 : decode cJ11_mismatch_2 42 = .ok (.i2l, 1) := dk_133 (dk_at dksJ11_mismatch_2_1 18 rfl rfl)
theorem dJ11_mismatch_2_43 : decode cJ11_mismatch_2 43 = .ok (.iload 4, 2) := dk_21 4 (dk_at dksJ11_mismatch_2_1 19 rfl rfl)
theorem dJ11_mismatch_2_45 : decode cJ11_mismatch_2 45 = .ok (.getstatic 129, 3) := dk_178 0 129 (dk_at dksJ11_mismatch_2_1 21 rfl rfl)
theorem dJ11_mismatch_2_48 : decode cJ11_mismatch_2 48 = .ok (.invokestatic 122, 3) := dk_184 0 122 (dk_at dksJ11_mismatch_2_2 0 rfl rfl)
theorem dJ11_mismatch_2_51 : decode cJ11_mismatch_2 51 = .ok (.istore 5, 2) := dk_54 5 (dk_at dksJ11_mismatch_2_2 3 rfl rfl)
theorem dJ11_mismatch_2_53 : decode cJ11_mismatch_2 53 = .ok (.iload 5, 2) := dk_21 5 (dk_at dksJ11_mismatch_2_2 5 rfl rfl)
theorem dJ11_mismatch_2_55 : decode cJ11_mismatch_2 55 = .ok (.ifCond .lt 6, 3) := dk_155 0 6 (dk_at dksJ11_mismatch_2_2 7 rfl rfl)
theorem dJ11_mismatch_2_58 : decode cJ11_mismatch_2 58 = .ok (.iload 5, 2) := dk_21 5 (dk_at dksJ11_mismatch_2_2 10 rfl rfl)
theorem dJ11_mismatch_2_60 : decode cJ11_mismatch_2 60 = .ok (.ireturn, 1) := dk_172 (dk_at dksJ11_mismatch_2_2 12 rfl rfl)
theorem dJ11_mismatch_2_61 : decode cJ11_mismatch_2 61 = .ok (.iload 4, 2) := dk_21 4 (dk_at dksJ11_mismatch_2_2 13 rfl rfl)
theorem dJ11_mismatch_2_63 : decode cJ11_mismatch_2 63 = .ok (.iload 5, 2) := dk_21 5 (dk_at dksJ11_mismatch_2_2 15 rfl rfl)
theorem dJ11_mismatch_2_65 : decode cJ11_mismatch_2 65 = .ok (.iconst (-1), 1) := dk_2 (dk_at dksJ11_mismatch_2_2 17 rfl rfl)
theorem dJ11_mismatch_2_66 : decode cJ11_mismatch_2 66 = .ok (.ixor, 1) := dk_130 (dk_at dksJ11_mismatch_2_2 18 rfl rfl)
theorem dJ11_mismatch_2_67 : decode cJ11_mismatch_2 67 = .ok (.isub, 1) := dk_100 (dk_at dksJ11_mismatch_2_2 19 rfl rfl)
theorem dJ11_mismatch_2_68 : decode cJ11_mismatch_2 68 = .ok (.istore 5, 2) := dk_54 5 (dk_at dksJ11_mismatch_2_2 20 rfl rfl)
theorem dJ11_mismatch_2_70 : decode cJ11_mismatch_2 70 = .ok (.iload 5, 2) := dk_21 5 (dk_at dksJ11_mismatch_2_2 22 rfl rfl)
theorem dJ11_mismatch_2_72 : decode cJ11_mismatch_2 72 = .ok (.iload 4, 2) := dk_21 4 (dk_at dksJ11_mismatch_2_3 0 rfl rfl)
theorem dJ11_mismatch_2_74 : decode cJ11_mismatch_2 74 = .ok (.if_icmp .ge 27, 3) := dk_162 0 27 (dk_at dksJ11_mismatch_2_3 2 rfl rfl)
theorem dJ11_mismatch_2_77 : decode cJ11_mismatch_2 77 = .ok (.aload_n 0, 1) := dk_42 (dk_at dksJ11_mismatch_2_3 5 rfl rfl)
theorem dJ11_mismatch_2_78 : decode cJ11_mismatch_2 78 = .ok (.iload_n 1, 1) := dk_27 (dk_at dksJ11_mismatch_2_3 6 rfl rfl)
theorem dJ11_mismatch_2_79 : decode cJ11_mismatch_2 79 = .ok (.iload 5, 2) := dk_21 5 (dk_at dksJ11_mismatch_2_3 7 rfl rfl)
theorem dJ11_mismatch_2_81 : decode cJ11_mismatch_2 81 = .ok (.iadd, 1) := dk_96 (dk_at dksJ11_mismatch_2_3 9 rfl rfl)
theorem dJ11_mismatch_2_82 : decode cJ11_mismatch_2 82 = .ok (.baload, 1) := dk_51 (dk_at dksJ11_mismatch_2_3 10 rfl rfl)
theorem dJ11_mismatch_2_83 : decode cJ11_mismatch_2 83 = .ok (.aload_n 2, 1) := dk_44 (dk_at dksJ11_mismatch_2_3 11 rfl rfl)
theorem dJ11_mismatch_2_84 : decode cJ11_mismatch_2 84 = .ok (.iload_n 3, 1) := dk_29 (dk_at dksJ11_mismatch_2_3 12 rfl rfl)
theorem dJ11_mismatch_2_85 : decode cJ11_mismatch_2 85 = .ok (.iload 5, 2) := dk_21 5 (dk_at dksJ11_mismatch_2_3 13 rfl rfl)
theorem dJ11_mismatch_2_87 : decode cJ11_mismatch_2 87 = .ok (.iadd, 1) := dk_96 (dk_at dksJ11_mismatch_2_3 15 rfl rfl)
theorem dJ11_mismatch_2_88 : decode cJ11_mismatch_2 88 = .ok (.baload, 1) := dk_51 (dk_at dksJ11_mismatch_2_3 16 rfl rfl)
theorem dJ11_mismatch_2_89 : decode cJ11_mismatch_2 89 = .ok (.if_icmp .eq 6, 3) := dk_159 0 6 (dk_at dksJ11_mismatch_2_3 17 rfl rfl)
theorem dJ11_mismatch_2_92 : decode cJ11_mismatch_2 92 = .ok (.iload 5, 2) := dk_21 5 (dk_at dksJ11_mismatch_2_3 20 rfl rfl)
theorem dJ11_mismatch_2_94 : decode cJ11_mismatch_2 94 = .ok (.ireturn, 1) := dk_172 (dk_at dksJ11_mismatch_2_3 22 rfl rfl)
theorem dJ11_mismatch_2_95 : decode cJ11_mismatch_2 95 = .ok (.iinc 5 1, 3) := dk_132 5 1 (dk_at dksJ11_mismatch_2_4 0 rfl rfl)
theorem dJ11_mismatch_2_98 : decode cJ11_mismatch_2 98 = .ok (.goto (-28), 3) := dk_167 255 228 (dk_at dksJ11_mismatch_2_4 3 rfl rfl)
theorem dJ11_mismatch_2_101 : decode cJ11_mismatch_2 101 = .ok (.iconst (-1), 1) := dk_2 (dk_at dksJ11_mismatch_2_4 6 rfl rfl)
theorem dJ11_mismatch_2_102 : decode cJ11_mismatch_2 102 = .ok (.ireturn, 1) := dk_172 (dk_at dksJ11_mismatch_2_4 7 rfl rfl)
theorem q92 : (Jvm.Cond.initialized "jdk/internal/util/ArraysSupport") ∈ lw_all := lw_g (lw_at lw_m1 19 rfl) rfl
theorem q562 : (Jvm.Cond.static ({ cls := "jdk/internal/util/ArraysSupport", name := "newLength", desc := "(III)I" } : Jvm.MethodName)) ∈ lw_all := lw_g (lw_at lw_m3 9 rfl) rfl
theorem q563 : (Jvm.Cond.code ({ cls := "jdk/internal/util/ArraysSupport", name := "newLength", desc := "(III)I" } : Jvm.MethodName) prog_84_method_27_code (4 : Nat) (Option.some Jvm.ClassFile.FieldType.int)) ∈ lw_all := lw_g (lw_at lw_m3 10 rfl) rfl
theorem q564 : (Jvm.Cond.methodLink "jdk/internal/util/ArraysSupport" (194 : Nat) ({ cls := "java/lang/Math", name := "max", desc := "(II)I" } : Jvm.MethodName)) ∈ lw_all := lw_g (lw_at lw_m3 11 rfl) rfl
theorem q567 : (Jvm.Cond.constant "jdk/internal/util/ArraysSupport" (200 : Nat) (2147483639 : Int32)) ∈ lw_all := lw_g (lw_at lw_m3 14 rfl) rfl
theorem q1531 : (Jvm.Cond.static ({ cls := "jdk/internal/util/ArraysSupport", name := "vectorizedHashCode", desc := "(Ljava/lang/Object;IIII)I" } : Jvm.MethodName)) ∈ lw_all := lw_g (lw_at lw_m7 18 rfl) rfl
theorem q1532 : (Jvm.Cond.code ({ cls := "jdk/internal/util/ArraysSupport", name := "vectorizedHashCode", desc := "(Ljava/lang/Object;IIII)I" } : Jvm.MethodName) prog_84_method_4_code (5 : Nat) (Option.some Jvm.ClassFile.FieldType.int)) ∈ lw_all := lw_g (lw_at lw_m7 19 rfl) rfl
theorem q1533 : (Jvm.Cond.classLink "jdk/internal/util/ArraysSupport" (60 : Nat) "[B") ∈ lw_all := lw_g (lw_at lw_m7 20 rfl) rfl
theorem q1534 : (Jvm.Cond.methodLink "jdk/internal/util/ArraysSupport" (62 : Nat) ({ cls := "jdk/internal/util/ArraysSupport", name := "signedHashCode", desc := "(I[BII)I" } : Jvm.MethodName)) ∈ lw_all := lw_g (lw_at lw_m7 21 rfl) rfl
theorem q1535 : (Jvm.Cond.static ({ cls := "jdk/internal/util/ArraysSupport", name := "signedHashCode", desc := "(I[BII)I" } : Jvm.MethodName)) ∈ lw_all := lw_g (lw_at lw_m7 22 rfl) rfl
theorem q1536 : (Jvm.Cond.code ({ cls := "jdk/internal/util/ArraysSupport", name := "signedHashCode", desc := "(I[BII)I" } : Jvm.MethodName) prog_84_method_5_code (6 : Nat) (Option.some Jvm.ClassFile.FieldType.int)) ∈ lw_all := lw_g (lw_at lw_m7 23 rfl) rfl
theorem q1553 : (Jvm.Cond.classLink "jdk/internal/util/ArraysSupport" (69 : Nat) "[C") ∈ lw_all := lw_g (lw_at lw_m7 40 rfl) rfl
theorem q1557 : (Jvm.Cond.methodLink "jdk/internal/util/ArraysSupport" (75 : Nat) ({ cls := "jdk/internal/util/ArraysSupport", name := "hashCode", desc := "(I[BII)I" } : Jvm.MethodName)) ∈ lw_all := lw_g (lw_at lw_m7 44 rfl) rfl
theorem q1558 : (Jvm.Cond.static ({ cls := "jdk/internal/util/ArraysSupport", name := "hashCode", desc := "(I[BII)I" } : Jvm.MethodName)) ∈ lw_all := lw_g (lw_at lw_m7 45 rfl) rfl
theorem q1559 : (Jvm.Cond.code ({ cls := "jdk/internal/util/ArraysSupport", name := "hashCode", desc := "(I[BII)I" } : Jvm.MethodName) prog_84_method_6_code (6 : Nat) (Option.some Jvm.ClassFile.FieldType.int)) ∈ lw_all := lw_g (lw_at lw_m7 46 rfl) rfl
theorem q1560 : (Jvm.Cond.classLink "jdk/internal/util/ArraysSupport" (77 : Nat) "[S") ∈ lw_all := lw_g (lw_at lw_m7 47 rfl) rfl
theorem q1564 : (Jvm.Cond.classLink "jdk/internal/util/ArraysSupport" (82 : Nat) "[I") ∈ lw_all := lw_g (lw_at lw_m7 51 rfl) rfl
theorem q1568 : (Jvm.Cond.classLink "jdk/internal/util/ArraysSupport" (87 : Nat) "java/lang/IllegalArgumentException") ∈ lw_all := lw_g (lw_at lw_m7 55 rfl) rfl
theorem q1569 : (Jvm.Cond.classLink "jdk/internal/util/ArraysSupport" (89 : Nat) "java/lang/StringBuilder") ∈ lw_all := lw_g (lw_at lw_m7 56 rfl) rfl
theorem q1570 : (Jvm.Cond.methodLink "jdk/internal/util/ArraysSupport" (91 : Nat) ({ cls := "java/lang/StringBuilder", name := "<init>", desc := "()V" } : Jvm.MethodName)) ∈ lw_all := lw_g (lw_at lw_m7 57 rfl) rfl
theorem q2833 : (Jvm.Cond.static ({ cls := "jdk/internal/util/ArraysSupport", name := "mismatch", desc := "([BI[BII)I" } : Jvm.MethodName)) ∈ lw_all := lw_g (lw_at lw_m12 120 rfl) rfl
theorem q2834 : (Jvm.Cond.code ({ cls := "jdk/internal/util/ArraysSupport", name := "mismatch", desc := "([BI[BII)I" } : Jvm.MethodName) prog_84_method_14_code (8 : Nat) (Option.some Jvm.ClassFile.FieldType.int)) ∈ lw_all := lw_g (lw_at lw_m12 121 rfl) rfl
/-! java/lang/Math -/
def RJ12 : String := "java/lang/Math"
abbrev cJ12_getExponent : ByteArray := prog_35_method_92_code
def yJ12_getExponent : MethodName := ⟨RJ12, "getExponent", "(D)I"⟩
def dkwJ12_getExponent_0 : List UInt8 := [38, 184, 0, 79, 20, 0, 87, 127, 16, 52, 123, 20, 1, 66, 101, 136, 172]
abbrev dktJ12_getExponent_0 : List UInt8 := dkwJ12_getExponent_0 ++ []
theorem dksJ12_getExponent_0 : cJ12_getExponent.data.toList.drop 0 = dktJ12_getExponent_0 := by decide +kernel
theorem dJ12_getExponent_0 : decode cJ12_getExponent 0 = .ok (.dload_n 0, 1) := dk_38 (dk_at dksJ12_getExponent_0 0 rfl rfl)
theorem dJ12_getExponent_1 : decode cJ12_getExponent 1 = .ok (.invokestatic 79, 3) := dk_184 0 79 (dk_at dksJ12_getExponent_0 1 rfl rfl)
theorem dJ12_getExponent_4 : decode cJ12_getExponent 4 = .ok (.ldc2_w 87, 3) := dk_20 0 87 (dk_at dksJ12_getExponent_0 4 rfl rfl)
theorem dJ12_getExponent_7 : decode cJ12_getExponent 7 = .ok (.land, 1) := dk_127 (dk_at dksJ12_getExponent_0 7 rfl rfl)
theorem dJ12_getExponent_8 : decode cJ12_getExponent 8 = .ok (.bipush 52, 2) := dk_16 52 (dk_at dksJ12_getExponent_0 8 rfl rfl)
theorem dJ12_getExponent_10 : decode cJ12_getExponent 10 = .ok (.lshr, 1) := dk_123 (dk_at dksJ12_getExponent_0 10 rfl rfl)
theorem dJ12_getExponent_11 : decode cJ12_getExponent 11 = .ok (.ldc2_w 322, 3) := dk_20 1 66 (dk_at dksJ12_getExponent_0 11 rfl rfl)
theorem dJ12_getExponent_14 : decode cJ12_getExponent 14 = .ok (.lsub, 1) := dk_101 (dk_at dksJ12_getExponent_0 14 rfl rfl)
theorem dJ12_getExponent_15 : decode cJ12_getExponent 15 = .ok (.l2i, 1) := dk_136 (dk_at dksJ12_getExponent_0 15 rfl rfl)
theorem dJ12_getExponent_16 : decode cJ12_getExponent 16 = .ok (.ireturn, 1) := dk_172 (dk_at dksJ12_getExponent_0 16 rfl rfl)
theorem q93 : (Jvm.Cond.initialized "java/lang/Math") ∈ lw_all := lw_g (lw_at lw_m1 20 rfl) rfl
theorem q565 : (Jvm.Cond.static ({ cls := "java/lang/Math", name := "max", desc := "(II)I" } : Jvm.MethodName)) ∈ lw_all := lw_g (lw_at lw_m3 12 rfl) rfl
theorem q566 : (Jvm.Cond.code ({ cls := "java/lang/Math", name := "max", desc := "(II)I" } : Jvm.MethodName) prog_35_method_65_code (2 : Nat) (Option.some Jvm.ClassFile.FieldType.int)) ∈ lw_all := lw_g (lw_at lw_m3 13 rfl) rfl
theorem q583 : (Jvm.Cond.static ({ cls := "java/lang/Math", name := "min", desc := "(II)I" } : Jvm.MethodName)) ∈ lw_all := lw_g (lw_at lw_m3 30 rfl) rfl
theorem q584 : (Jvm.Cond.code ({ cls := "java/lang/Math", name := "min", desc := "(II)I" } : Jvm.MethodName) prog_35_method_69_code (2 : Nat) (Option.some Jvm.ClassFile.FieldType.int)) ∈ lw_all := lw_g (lw_at lw_m3 31 rfl) rfl
theorem q1120 : (Jvm.Cond.static ({ cls := "java/lang/Math", name := "ceil", desc := "(D)D" } : Jvm.MethodName)) ∈ lw_all := lw_g (lw_at lw_m5 87 rfl) rfl
theorem q1121 : (Jvm.Cond.code ({ cls := "java/lang/Math", name := "ceil", desc := "(D)D" } : Jvm.MethodName) prog_35_method_16_code (2 : Nat) (Option.some Jvm.ClassFile.FieldType.double)) ∈ lw_all := lw_g (lw_at lw_m5 88 rfl) rfl
theorem q1130 : (Jvm.Cond.static ({ cls := "java/lang/Math", name := "getExponent", desc := "(D)I" } : Jvm.MethodName)) ∈ lw_all := lw_g (lw_at lw_m5 97 rfl) rfl
theorem q1131 : (Jvm.Cond.code ({ cls := "java/lang/Math", name := "getExponent", desc := "(D)I" } : Jvm.MethodName) prog_35_method_92_code (2 : Nat) (Option.some Jvm.ClassFile.FieldType.int)) ∈ lw_all := lw_g (lw_at lw_m5 98 rfl) rfl
theorem q1132 : (Jvm.Cond.methodLink "java/lang/Math" (79 : Nat) ({ cls := "java/lang/Double", name := "doubleToRawLongBits", desc := "(D)J" } : Jvm.MethodName)) ∈ lw_all := lw_g (lw_at lw_m5 99 rfl) rfl
theorem q1135 : (Jvm.Cond.constantLong "java/lang/Math" (87 : Nat) (9218868437227405312 : Int64)) ∈ lw_all := lw_g (lw_at lw_m5 102 rfl) rfl
theorem q1136 : (Jvm.Cond.constantLong "java/lang/Math" (322 : Nat) (1023 : Int64)) ∈ lw_all := lw_g (lw_at lw_m5 103 rfl) rfl
/-! java/util/Arrays -/
def RJ13 : String := "java/util/Arrays"
abbrev cJ13_copyOf : ByteArray := prog_56_method_121_code
def yJ13_copyOf : MethodName := ⟨RJ13, "copyOf", "([BI)[B"⟩
def dkwJ13_copyOf_1 : List UInt8 := [27, 184, 1, 48, 184, 0, 150, 44, 176]
abbrev dktJ13_copyOf_1 : List UInt8 := dkwJ13_copyOf_1 ++ []
def dkwJ13_copyOf_0 : List UInt8 := [27, 42, 190, 160, 0, 11, 42, 182, 1, 54, 192, 1, 55, 176, 27, 188, 8, 77, 42, 3, 44, 3, 42, 190]
abbrev dktJ13_copyOf_0 : List UInt8 := dkwJ13_copyOf_0 ++ dktJ13_copyOf_1
theorem dksJ13_copyOf_0 : cJ13_copyOf.data.toList.drop 0 = dktJ13_copyOf_0 := by decide +kernel
theorem dksJ13_copyOf_1 : cJ13_copyOf.data.toList.drop 24 = dktJ13_copyOf_1 := dk_seg dksJ13_copyOf_0 24 rfl rfl
theorem dJ13_copyOf_0 : decode cJ13_copyOf 0 = .ok (.iload_n 1, 1) := dk_27 (dk_at dksJ13_copyOf_0 0 rfl rfl)
theorem dJ13_copyOf_1 : decode cJ13_copyOf 1 = .ok (.aload_n 0, 1) := dk_42 (dk_at dksJ13_copyOf_0 1 rfl rfl)
theorem dJ13_copyOf_2 : decode cJ13_copyOf 2 = .ok (.arraylength, 1) := dk_190 (dk_at dksJ13_copyOf_0 2 rfl rfl)
theorem dJ13_copyOf_3 : decode cJ13_copyOf 3 = .ok (.if_icmp .ne 11, 3) := dk_160 0 11 (dk_at dksJ13_copyOf_0 3 rfl rfl)
theorem dJ13_copyOf_6 : decode cJ13_copyOf 6 = .ok (.aload_n 0, 1) := dk_42 (dk_at dksJ13_copyOf_0 6 rfl rfl)
theorem dJ13_copyOf_7 : decode cJ13_copyOf 7 = .ok (.invokevirtual 310, 3) := dk_182 1 54 (dk_at dksJ13_copyOf_0 7 rfl rfl)
theorem dJ13_copyOf_10 : decode cJ13_copyOf 10 = .ok (.checkcast 311, 3) := dk_192 1 55 (dk_at dksJ13_copyOf_0 10 rfl rfl)
theorem dJ13_copyOf_13 : decode cJ13_copyOf 13 = .ok (.areturn, 1) := dk_176 (dk_at dksJ13_copyOf_0 13 rfl rfl)
theorem dJ13_copyOf_14 : decode cJ13_copyOf 14 = .ok (.iload_n 1, 1) := dk_27 (dk_at dksJ13_copyOf_0 14 rfl rfl)
theorem dJ13_copyOf_15 : decode cJ13_copyOf 15 = .ok (.newarray .byte, 2) := dk_188_8 (dk_at dksJ13_copyOf_0 15 rfl rfl)
theorem dJ13_copyOf_17 : decode cJ13_copyOf 17 = .ok (.astore_n 2, 1) := dk_77 (dk_at dksJ13_copyOf_0 17 rfl rfl)
theorem dJ13_copyOf_18 : decode cJ13_copyOf 18 = .ok (.aload_n 0, 1) := dk_42 (dk_at dksJ13_copyOf_0 18 rfl rfl)
theorem dJ13_copyOf_19 : decode cJ13_copyOf 19 = .ok (.iconst 0, 1) := dk_3 (dk_at dksJ13_copyOf_0 19 rfl rfl)
theorem dJ13_copyOf_20 : decode cJ13_copyOf 20 = .ok (.aload_n 2, 1) := dk_44 (dk_at dksJ13_copyOf_0 20 rfl rfl)
theorem dJ13_copyOf_21 : decode cJ13_copyOf 21 = .ok (.iconst 0, 1) := dk_3 (dk_at dksJ13_copyOf_0 21 rfl rfl)
theorem dJ13_copyOf_22 : decode cJ13_copyOf 22 = .ok (.aload_n 0, 1) := dk_42 (dk_at dksJ13_copyOf_0 22 rfl rfl)
theorem dJ13_copyOf_23 : decode cJ13_copyOf 23 = .ok (.arraylength, 1) := dk_190 (dk_at dksJ13_copyOf_0 23 rfl rfl)
theorem dJ13_copyOf_24 : decode cJ13_copyOf 24 = .ok (.iload_n 1, 1) := dk_27 (dk_at dksJ13_copyOf_1 0 rfl rfl)
theorem dJ13_copyOf_25 : decode cJ13_copyOf 25 = .ok (.invokestatic 304, 3) := dk_184 1 48 (dk_at dksJ13_copyOf_1 1 rfl rfl)
theorem dJ13_copyOf_28 : decode cJ13_copyOf 28 = .ok (.invokestatic 150, 3) := dk_184 0 150 (dk_at dksJ13_copyOf_1 4 rfl rfl)
theorem dJ13_copyOf_31 : decode cJ13_copyOf 31 = .ok (.aload_n 2, 1) := dk_44 (dk_at dksJ13_copyOf_1 7 rfl rfl)
theorem dJ13_copyOf_32 : decode cJ13_copyOf 32 = .ok (.areturn, 1) := dk_176 (dk_at dksJ13_copyOf_1 8 rfl rfl)
abbrev cJ13_copyOfRange : ByteArray := prog_56_method_132_code
def yJ13_copyOfRange : MethodName := ⟨RJ13, "copyOfRange", "([BII)[B"⟩
def dkwJ13_copyOfRange_1 : List UInt8 := [176]
abbrev dktJ13_copyOfRange_1 : List UInt8 := dkwJ13_copyOfRange_1 ++ []
def dkwJ13_copyOfRange_0 : List UInt8 := [27, 154, 0, 9, 28, 42, 190, 159, 0, 10, 42, 27, 28, 184, 1, 83, 176, 42, 182, 1, 54, 192, 1, 55]
abbrev dktJ13_copyOfRange_0 : List UInt8 := dkwJ13_copyOfRange_0 ++ dktJ13_copyOfRange_1
theorem dksJ13_copyOfRange_0 : cJ13_copyOfRange.data.toList.drop 0 = dktJ13_copyOfRange_0 := by decide +kernel
theorem dksJ13_copyOfRange_1 : cJ13_copyOfRange.data.toList.drop 24 = dktJ13_copyOfRange_1 := dk_seg dksJ13_copyOfRange_0 24 rfl rfl
theorem dJ13_copyOfRange_0 : decode cJ13_copyOfRange 0 = .ok (.iload_n 1, 1) := dk_27 (dk_at dksJ13_copyOfRange_0 0 rfl rfl)
theorem dJ13_copyOfRange_1 : decode cJ13_copyOfRange 1 = .ok (.ifCond .ne 9, 3) := dk_154 0 9 (dk_at dksJ13_copyOfRange_0 1 rfl rfl)
theorem dJ13_copyOfRange_4 : decode cJ13_copyOfRange 4 = .ok (.iload_n 2, 1) := dk_28 (dk_at dksJ13_copyOfRange_0 4 rfl rfl)
theorem dJ13_copyOfRange_5 : decode cJ13_copyOfRange 5 = .ok (.aload_n 0, 1) := dk_42 (dk_at dksJ13_copyOfRange_0 5 rfl rfl)
theorem dJ13_copyOfRange_6 : decode cJ13_copyOfRange 6 = .ok (.arraylength, 1) := dk_190 (dk_at dksJ13_copyOfRange_0 6 rfl rfl)
theorem dJ13_copyOfRange_7 : decode cJ13_copyOfRange 7 = .ok (.if_icmp .eq 10, 3) := dk_159 0 10 (dk_at dksJ13_copyOfRange_0 7 rfl rfl)
theorem dJ13_copyOfRange_10 : decode cJ13_copyOfRange 10 = .ok (.aload_n 0, 1) := dk_42 (dk_at dksJ13_copyOfRange_0 10 rfl rfl)
theorem dJ13_copyOfRange_11 : decode cJ13_copyOfRange 11 = .ok (.iload_n 1, 1) := dk_27 (dk_at dksJ13_copyOfRange_0 11 rfl rfl)
theorem dJ13_copyOfRange_12 : decode cJ13_copyOfRange 12 = .ok (.iload_n 2, 1) := dk_28 (dk_at dksJ13_copyOfRange_0 12 rfl rfl)
theorem dJ13_copyOfRange_13 : decode cJ13_copyOfRange 13 = .ok (.invokestatic 339, 3) := dk_184 1 83 (dk_at dksJ13_copyOfRange_0 13 rfl rfl)
theorem dJ13_copyOfRange_16 : decode cJ13_copyOfRange 16 = .ok (.areturn, 1) := dk_176 (dk_at dksJ13_copyOfRange_0 16 rfl rfl)
theorem dJ13_copyOfRange_17 : decode cJ13_copyOfRange 17 = .ok (.aload_n 0, 1) := dk_42 (dk_at dksJ13_copyOfRange_0 17 rfl rfl)
theorem dJ13_copyOfRange_18 : decode cJ13_copyOfRange 18 = .ok (.invokevirtual 310, 3) := dk_182 1 54 (dk_at dksJ13_copyOfRange_0 18 rfl rfl)
theorem dJ13_copyOfRange_21 : decode cJ13_copyOfRange 21 = .ok (.checkcast 311, 3) := dk_192 1 55 (dk_at dksJ13_copyOfRange_0 21 rfl rfl)
theorem dJ13_copyOfRange_24 : decode cJ13_copyOfRange 24 = .ok (.areturn, 1) := dk_176 (dk_at dksJ13_copyOfRange_1 0 rfl rfl)
abbrev cJ13_copyOfRangeByte : ByteArray := prog_56_method_133_code
def yJ13_copyOfRangeByte : MethodName := ⟨RJ13, "copyOfRangeByte", "([BII)[B"⟩
def dkwJ13_copyOfRangeByte_1 : List UInt8 := [184, 1, 48, 184, 0, 150, 25, 4, 176]
abbrev dktJ13_copyOfRangeByte_1 : List UInt8 := dkwJ13_copyOfRangeByte_1 ++ []
def dkwJ13_copyOfRangeByte_0 : List UInt8 := [27, 28, 184, 1, 87, 28, 27, 100, 62, 29, 188, 8, 58, 4, 42, 27, 25, 4, 3, 42, 190, 27, 100, 29]
abbrev dktJ13_copyOfRangeByte_0 : List UInt8 := dkwJ13_copyOfRangeByte_0 ++ dktJ13_copyOfRangeByte_1
theorem dksJ13_copyOfRangeByte_0 : cJ13_copyOfRangeByte.data.toList.drop 0 = dktJ13_copyOfRangeByte_0 := by decide +kernel
theorem dksJ13_copyOfRangeByte_1 : cJ13_copyOfRangeByte.data.toList.drop 24 = dktJ13_copyOfRangeByte_1 := dk_seg dksJ13_copyOfRangeByte_0 24 rfl rfl
theorem dJ13_copyOfRangeByte_0 : decode cJ13_copyOfRangeByte 0 = .ok (.iload_n 1, 1) := dk_27 (dk_at dksJ13_copyOfRangeByte_0 0 rfl rfl)
theorem dJ13_copyOfRangeByte_1 : decode cJ13_copyOfRangeByte 1 = .ok (.iload_n 2, 1) := dk_28 (dk_at dksJ13_copyOfRangeByte_0 1 rfl rfl)
theorem dJ13_copyOfRangeByte_2 : decode cJ13_copyOfRangeByte 2 = .ok (.invokestatic 343, 3) := dk_184 1 87 (dk_at dksJ13_copyOfRangeByte_0 2 rfl rfl)
theorem dJ13_copyOfRangeByte_5 : decode cJ13_copyOfRangeByte 5 = .ok (.iload_n 2, 1) := dk_28 (dk_at dksJ13_copyOfRangeByte_0 5 rfl rfl)
theorem dJ13_copyOfRangeByte_6 : decode cJ13_copyOfRangeByte 6 = .ok (.iload_n 1, 1) := dk_27 (dk_at dksJ13_copyOfRangeByte_0 6 rfl rfl)
theorem dJ13_copyOfRangeByte_7 : decode cJ13_copyOfRangeByte 7 = .ok (.isub, 1) := dk_100 (dk_at dksJ13_copyOfRangeByte_0 7 rfl rfl)
theorem dJ13_copyOfRangeByte_8 : decode cJ13_copyOfRangeByte 8 = .ok (.istore_n 3, 1) := dk_62 (dk_at dksJ13_copyOfRangeByte_0 8 rfl rfl)
theorem dJ13_copyOfRangeByte_9 : decode cJ13_copyOfRangeByte 9 = .ok (.iload_n 3, 1) := dk_29 (dk_at dksJ13_copyOfRangeByte_0 9 rfl rfl)
theorem dJ13_copyOfRangeByte_10 : decode cJ13_copyOfRangeByte 10 = .ok (.newarray .byte, 2) := dk_188_8 (dk_at dksJ13_copyOfRangeByte_0 10 rfl rfl)
theorem dJ13_copyOfRangeByte_12 : decode cJ13_copyOfRangeByte 12 = .ok (.astore 4, 2) := dk_58 4 (dk_at dksJ13_copyOfRangeByte_0 12 rfl rfl)
theorem dJ13_copyOfRangeByte_14 : decode cJ13_copyOfRangeByte 14 = .ok (.aload_n 0, 1) := dk_42 (dk_at dksJ13_copyOfRangeByte_0 14 rfl rfl)
theorem dJ13_copyOfRangeByte_15 : decode cJ13_copyOfRangeByte 15 = .ok (.iload_n 1, 1) := dk_27 (dk_at dksJ13_copyOfRangeByte_0 15 rfl rfl)
theorem dJ13_copyOfRangeByte_16 : decode cJ13_copyOfRangeByte 16 = .ok (.aload 4, 2) := dk_25 4 (dk_at dksJ13_copyOfRangeByte_0 16 rfl rfl)
theorem dJ13_copyOfRangeByte_18 : decode cJ13_copyOfRangeByte 18 = .ok (.iconst 0, 1) := dk_3 (dk_at dksJ13_copyOfRangeByte_0 18 rfl rfl)
theorem dJ13_copyOfRangeByte_19 : decode cJ13_copyOfRangeByte 19 = .ok (.aload_n 0, 1) := dk_42 (dk_at dksJ13_copyOfRangeByte_0 19 rfl rfl)
theorem dJ13_copyOfRangeByte_20 : decode cJ13_copyOfRangeByte 20 = .ok (.arraylength, 1) := dk_190 (dk_at dksJ13_copyOfRangeByte_0 20 rfl rfl)
theorem dJ13_copyOfRangeByte_21 : decode cJ13_copyOfRangeByte 21 = .ok (.iload_n 1, 1) := dk_27 (dk_at dksJ13_copyOfRangeByte_0 21 rfl rfl)
theorem dJ13_copyOfRangeByte_22 : decode cJ13_copyOfRangeByte 22 = .ok (.isub, 1) := dk_100 (dk_at dksJ13_copyOfRangeByte_0 22 rfl rfl)
theorem dJ13_copyOfRangeByte_23 : decode cJ13_copyOfRangeByte 23 = .ok (.iload_n 3, 1) := dk_29 (dk_at dksJ13_copyOfRangeByte_0 23 rfl rfl)
theorem dJ13_copyOfRangeByte_24 : decode cJ13_copyOfRangeByte 24 = .ok (.invokestatic 304, 3) := dk_184 1 48 (dk_at dksJ13_copyOfRangeByte_1 0 rfl rfl)
theorem dJ13_copyOfRangeByte_27 : decode cJ13_copyOfRangeByte 27 = .ok (.invokestatic 150, 3) := dk_184 0 150 (dk_at dksJ13_copyOfRangeByte_1 3 rfl rfl)
theorem dJ13_copyOfRangeByte_30 : decode cJ13_copyOfRangeByte 30 = .ok (.aload 4, 2) := dk_25 4 (dk_at dksJ13_copyOfRangeByte_1 6 rfl rfl)
theorem dJ13_copyOfRangeByte_32 : decode cJ13_copyOfRangeByte 32 = .ok (.areturn, 1) := dk_176 (dk_at dksJ13_copyOfRangeByte_1 8 rfl rfl)
abbrev cJ13_checkLength : ByteArray := prog_56_method_131_code
def yJ13_checkLength : MethodName := ⟨RJ13, "checkLength", "(II)V"⟩
def dkwJ13_checkLength_1 : List UInt8 := [182, 0, 50, 27, 182, 0, 54, 182, 0, 61, 183, 0, 65, 191, 177]
abbrev dktJ13_checkLength_1 : List UInt8 := dkwJ13_checkLength_1 ++ []
def dkwJ13_checkLength_0 : List UInt8 := [27, 26, 162, 0, 35, 187, 0, 43, 89, 187, 0, 45, 89, 183, 0, 47, 26, 182, 0, 54, 19, 1, 81]
abbrev dktJ13_checkLength_0 : List UInt8 := dkwJ13_checkLength_0 ++ dktJ13_checkLength_1
theorem dksJ13_checkLength_0 : cJ13_checkLength.data.toList.drop 0 = dktJ13_checkLength_0 := by decide +kernel
theorem dksJ13_checkLength_1 : cJ13_checkLength.data.toList.drop 23 = dktJ13_checkLength_1 := dk_seg dksJ13_checkLength_0 23 rfl rfl
theorem dJ13_checkLength_0 : decode cJ13_checkLength 0 = .ok (.iload_n 1, 1) := dk_27 (dk_at dksJ13_checkLength_0 0 rfl rfl)
theorem dJ13_checkLength_1 : decode cJ13_checkLength 1 = .ok (.iload_n 0, 1) := dk_26 (dk_at dksJ13_checkLength_0 1 rfl rfl)
theorem dJ13_checkLength_2 : decode cJ13_checkLength 2 = .ok (.if_icmp .ge 35, 3) := dk_162 0 35 (dk_at dksJ13_checkLength_0 2 rfl rfl)
theorem dJ13_checkLength_5 : decode cJ13_checkLength 5 = .ok (.new 43, 3) := dk_187 0 43 (dk_at dksJ13_checkLength_0 5 rfl rfl)
theorem dJ13_checkLength_8 : decode cJ13_checkLength 8 = .ok (.dup, 1) := dk_89 (dk_at dksJ13_checkLength_0 8 rfl rfl)
theorem dJ13_checkLength_9 : decode cJ13_checkLength 9 = .ok (.new 45, 3) := dk_187 0 45 (dk_at dksJ13_checkLength_0 9 rfl rfl)
theorem dJ13_checkLength_12 : decode cJ13_checkLength 12 = .ok (.dup, 1) := dk_89 (dk_at dksJ13_checkLength_0 12 rfl rfl)
theorem dJ13_checkLength_13 : decode cJ13_checkLength 13 = .ok (.invokespecial 47, 3) := dk_183 0 47 (dk_at dksJ13_checkLength_0 13 rfl rfl)
theorem dJ13_checkLength_16 : decode cJ13_checkLength 16 = .ok (.iload_n 0, 1) := dk_26 (dk_at dksJ13_checkLength_0 16 rfl rfl)
theorem dJ13_checkLength_17 : decode cJ13_checkLength 17 = .ok (.invokevirtual 54, 3) := dk_182 0 54 (dk_at dksJ13_checkLength_0 17 rfl rfl)
theorem dJ13_checkLength_20 : decode cJ13_checkLength 20 = .ok (.ldc_w 337, 3) := dk_19 1 81 (dk_at dksJ13_checkLength_0 20 rfl rfl)
theorem dJ13_checkLength_23 : decode cJ13_checkLength 23 = .ok (.invokevirtual 50, 3) := dk_182 0 50 (dk_at dksJ13_checkLength_1 0 rfl rfl)
theorem dJ13_checkLength_26 : decode cJ13_checkLength 26 = .ok (.iload_n 1, 1) := dk_27 (dk_at dksJ13_checkLength_1 3 rfl rfl)
theorem dJ13_checkLength_27 : decode cJ13_checkLength 27 = .ok (.invokevirtual 54, 3) := dk_182 0 54 (dk_at dksJ13_checkLength_1 4 rfl rfl)
theorem dJ13_checkLength_30 : decode cJ13_checkLength 30 = .ok (.invokevirtual 61, 3) := dk_182 0 61 (dk_at dksJ13_checkLength_1 7 rfl rfl)
theorem dJ13_checkLength_33 : decode cJ13_checkLength 33 = .ok (.invokespecial 65, 3) := dk_183 0 65 (dk_at dksJ13_checkLength_1 10 rfl rfl)
theorem dJ13_checkLength_36 : decode cJ13_checkLength 36 = .ok (.athrow, 1) := dk_191 (dk_at dksJ13_checkLength_1 13 rfl rfl)
theorem dJ13_checkLength_37 : decode cJ13_checkLength 37 = .ok (.return_, 1) := dk_177 (dk_at dksJ13_checkLength_1 14 rfl rfl)
abbrev cJ13_copyOf_2 : ByteArray := prog_56_method_119_code
def yJ13_copyOf_2 : MethodName := ⟨RJ13, "copyOf", "([Ljava/lang/Object;I)[Ljava/lang/Object;"⟩
def dkwJ13_copyOf_2_0 : List UInt8 := [42, 27, 42, 182, 0, 86, 184, 1, 44, 176]
abbrev dktJ13_copyOf_2_0 : List UInt8 := dkwJ13_copyOf_2_0 ++ []
theorem dksJ13_copyOf_2_0 : cJ13_copyOf_2.data.toList.drop 0 = dktJ13_copyOf_2_0 := by decide +kernel
theorem dJ13_copyOf_2_0 : decode cJ13_copyOf_2 0 = .ok (.aload_n 0, 1) := dk_42 (dk_at dksJ13_copyOf_2_0 0 rfl rfl)
theorem dJ13_copyOf_2_1 : decode cJ13_copyOf_2 1 = .ok (.iload_n 1, 1) := dk_27 (dk_at dksJ13_copyOf_2_0 1 rfl rfl)
theorem dJ13_copyOf_2_2 : decode cJ13_copyOf_2 2 = .ok (.aload_n 0, 1) := dk_42 (dk_at dksJ13_copyOf_2_0 2 rfl rfl)
theorem dJ13_copyOf_2_3 : decode cJ13_copyOf_2 3 = .ok (.invokevirtual 86, 3) := dk_182 0 86 (dk_at dksJ13_copyOf_2_0 3 rfl rfl)
theorem dJ13_copyOf_2_6 : decode cJ13_copyOf_2 6 = .ok (.invokestatic 300, 3) := dk_184 1 44 (dk_at dksJ13_copyOf_2_0 6 rfl rfl)
theorem dJ13_copyOf_2_9 : decode cJ13_copyOf_2 9 = .ok (.areturn, 1) := dk_176 (dk_at dksJ13_copyOf_2_0 9 rfl rfl)
abbrev cJ13_copyOf_3 : ByteArray := prog_56_method_120_code
def yJ13_copyOf_3 : MethodName := ⟨RJ13, "copyOf", "([Ljava/lang/Object;ILjava/lang/Class;)[Ljava/lang/Object;"⟩
def dkwJ13_copyOf_3_1 : List UInt8 := [78, 42, 3, 45, 3, 42, 190, 27, 184, 1, 48, 184, 0, 150, 45, 176]
abbrev dktJ13_copyOf_3_1 : List UInt8 := dkwJ13_copyOf_3_1 ++ []
def dkwJ13_copyOf_3_0 : List UInt8 := [44, 18, 110, 166, 0, 10, 27, 189, 0, 2, 167, 0, 14, 44, 182, 0, 90, 27, 184, 0, 95, 192, 0, 110]
abbrev dktJ13_copyOf_3_0 : List UInt8 := dkwJ13_copyOf_3_0 ++ dktJ13_copyOf_3_1
theorem dksJ13_copyOf_3_0 : cJ13_copyOf_3.data.toList.drop 0 = dktJ13_copyOf_3_0 := by decide +kernel
theorem dksJ13_copyOf_3_1 : cJ13_copyOf_3.data.toList.drop 24 = dktJ13_copyOf_3_1 := dk_seg dksJ13_copyOf_3_0 24 rfl rfl
theorem dJ13_copyOf_3_0 : decode cJ13_copyOf_3 0 = .ok (.aload_n 2, 1) := dk_44 (dk_at dksJ13_copyOf_3_0 0 rfl rfl)
theorem dJ13_copyOf_3_1 : decode cJ13_copyOf_3 1 = .ok (.ldc 110, 2) := dk_18 110 (dk_at dksJ13_copyOf_3_0 1 rfl rfl)
theorem dJ13_copyOf_3_3 : decode cJ13_copyOf_3 3 = .ok (.if_acmp .ne 10, 3) := dk_166 0 10 (dk_at dksJ13_copyOf_3_0 3 rfl rfl)
theorem dJ13_copyOf_3_6 : decode cJ13_copyOf_3 6 = .ok (.iload_n 1, 1) := dk_27 (dk_at dksJ13_copyOf_3_0 6 rfl rfl)
theorem dJ13_copyOf_3_7 : decode cJ13_copyOf_3 7 = .ok (.anewarray 2, 3) := dk_189 0 2 (dk_at dksJ13_copyOf_3_0 7 rfl rfl)
theorem dJ13_copyOf_3_10 : decode cJ13_copyOf_3 10 = .ok (.goto 14, 3) := dk_167 0 14 (dk_at dksJ13_copyOf_3_0 10 rfl rfl)
theorem dJ13_copyOf_3_13 : decode cJ13_copyOf_3 13 = .ok (.aload_n 2, 1) := dk_44 (dk_at dksJ13_copyOf_3_0 13 rfl rfl)
theorem dJ13_copyOf_3_14 : decode cJ13_copyOf_3 14 = .ok (.invokevirtual 90, 3) := dk_182 0 90 (dk_at dksJ13_copyOf_3_0 14 rfl rfl)
theorem dJ13_copyOf_3_17 : decode cJ13_copyOf_3 17 = .ok (.iload_n 1, 1) := dk_27 (dk_at dksJ13_copyOf_3_0 17 rfl rfl)
theorem dJ13_copyOf_3_18 : decode cJ13_copyOf_3 18 = .ok (.invokestatic 95, 3) := dk_184 0 95 (dk_at dksJ13_copyOf_3_0 18 rfl rfl)
theorem dJ13_copyOf_3_21 : decode cJ13_copyOf_3 21 = .ok (.checkcast 110, 3) := dk_192 0 110 (dk_at dksJ13_copyOf_3_0 21 rfl rfl)
theorem dJ13_copyOf_3_24 : decode cJ13_copyOf_3 24 = .ok (.astore_n 3, 1) := dk_78 (dk_at dksJ13_copyOf_3_1 0 rfl rfl)
theorem dJ13_copyOf_3_25 : decode cJ13_copyOf_3 25 = .ok (.aload_n 0, 1) := dk_42 (dk_at dksJ13_copyOf_3_1 1 rfl rfl)
theorem dJ13_copyOf_3_26 : decode cJ13_copyOf_3 26 = .ok (.iconst 0, 1) := dk_3 (dk_at dksJ13_copyOf_3_1 2 rfl rfl)
theorem dJ13_copyOf_3_27 : decode cJ13_copyOf_3 27 = .ok (.aload_n 3, 1) := dk_45 (dk_at dksJ13_copyOf_3_1 3 rfl rfl)
theorem dJ13_copyOf_3_28 : decode cJ13_copyOf_3 28 = .ok (.iconst 0, 1) := dk_3 (dk_at dksJ13_copyOf_3_1 4 rfl rfl)
theorem dJ13_copyOf_3_29 : decode cJ13_copyOf_3 29 = .ok (.aload_n 0, 1) := dk_42 (dk_at dksJ13_copyOf_3_1 5 rfl rfl)
theorem dJ13_copyOf_3_30 : decode cJ13_copyOf_3 30 = .ok (.arraylength, 1) := dk_190 (dk_at dksJ13_copyOf_3_1 6 rfl rfl)
theorem dJ13_copyOf_3_31 : decode cJ13_copyOf_3 31 = .ok (.iload_n 1, 1) := dk_27 (dk_at dksJ13_copyOf_3_1 7 rfl rfl)
theorem dJ13_copyOf_3_32 : decode cJ13_copyOf_3 32 = .ok (.invokestatic 304, 3) := dk_184 1 48 (dk_at dksJ13_copyOf_3_1 8 rfl rfl)
theorem dJ13_copyOf_3_35 : decode cJ13_copyOf_3 35 = .ok (.invokestatic 150, 3) := dk_184 0 150 (dk_at dksJ13_copyOf_3_1 11 rfl rfl)
theorem dJ13_copyOf_3_38 : decode cJ13_copyOf_3 38 = .ok (.aload_n 3, 1) := dk_45 (dk_at dksJ13_copyOf_3_1 14 rfl rfl)
theorem dJ13_copyOf_3_39 : decode cJ13_copyOf_3 39 = .ok (.areturn, 1) := dk_176 (dk_at dksJ13_copyOf_3_1 15 rfl rfl)
abbrev cJ13_fill : ByteArray := prog_56_method_110_code
def yJ13_fill : MethodName := ⟨RJ13, "fill", "([BIIB)V"⟩
def dkwJ13_fill_1 : List UInt8 := [167, 255, 242, 177]
abbrev dktJ13_fill_1 : List UInt8 := dkwJ13_fill_1 ++ []
def dkwJ13_fill_0 : List UInt8 := [42, 190, 27, 28, 184, 0, 13, 27, 54, 4, 21, 4, 28, 162, 0, 14, 42, 21, 4, 29, 84, 132, 4, 1]
abbrev dktJ13_fill_0 : List UInt8 := dkwJ13_fill_0 ++ dktJ13_fill_1
theorem dksJ13_fill_0 : cJ13_fill.data.toList.drop 0 = dktJ13_fill_0 := by decide +kernel
theorem dksJ13_fill_1 : cJ13_fill.data.toList.drop 24 = dktJ13_fill_1 := dk_seg dksJ13_fill_0 24 rfl rfl
theorem dJ13_fill_0 : decode cJ13_fill 0 = .ok (.aload_n 0, 1) := dk_42 (dk_at dksJ13_fill_0 0 rfl rfl)
theorem dJ13_fill_1 : decode cJ13_fill 1 = .ok (.arraylength, 1) := dk_190 (dk_at dksJ13_fill_0 1 rfl rfl)
theorem dJ13_fill_2 : decode cJ13_fill 2 = .ok (.iload_n 1, 1) := dk_27 (dk_at dksJ13_fill_0 2 rfl rfl)
theorem dJ13_fill_3 : decode cJ13_fill 3 = .ok (.iload_n 2, 1) := dk_28 (dk_at dksJ13_fill_0 3 rfl rfl)
theorem dJ13_fill_4 : decode cJ13_fill 4 = .ok (.invokestatic 13, 3) := dk_184 0 13 (dk_at dksJ13_fill_0 4 rfl rfl)
theorem dJ13_fill_7 : decode cJ13_fill 7 = .ok (.iload_n 1, 1) := dk_27 (dk_at dksJ13_fill_0 7 rfl rfl)
theorem dJ13_fill_8 : decode cJ13_fill 8 = .ok (.istore 4, 2) := dk_54 4 (dk_at dksJ13_fill_0 8 rfl rfl)
theorem dJ13_fill_10 : decode cJ13_fill 10 = .ok (.iload 4, 2) := dk_21 4 (dk_at dksJ13_fill_0 10 rfl rfl)
theorem dJ13_fill_12 : decode cJ13_fill 12 = .ok (.iload_n 2, 1) := dk_28 (dk_at dksJ13_fill_0 12 rfl rfl)
theorem dJ13_fill_13 : decode cJ13_fill 13 = .ok (.if_icmp .ge 14, 3) := dk_162 0 14 (dk_at dksJ13_fill_0 13 rfl rfl)
theorem dJ13_fill_16 : decode cJ13_fill 16 = .ok (.aload_n 0, 1) := dk_42 (dk_at dksJ13_fill_0 16 rfl rfl)
theorem dJ13_fill_17 : decode cJ13_fill 17 = .ok (.iload 4, 2) := dk_21 4 (dk_at dksJ13_fill_0 17 rfl rfl)
theorem dJ13_fill_19 : decode cJ13_fill 19 = .ok (.iload_n 3, 1) := dk_29 (dk_at dksJ13_fill_0 19 rfl rfl)
theorem dJ13_fill_20 : decode cJ13_fill 20 = .ok (.bastore, 1) := dk_84 (dk_at dksJ13_fill_0 20 rfl rfl)
theorem dJ13_fill_21 : decode cJ13_fill 21 = .ok (.iinc 4 1, 3) := dk_132 4 1 (dk_at dksJ13_fill_0 21 rfl rfl)
theorem dJ13_fill_24 : decode cJ13_fill 24 = .ok (.goto (-14), 3) := dk_167 255 242 (dk_at dksJ13_fill_1 0 rfl rfl)
theorem dJ13_fill_27 : decode cJ13_fill 27 = .ok (.return_, 1) := dk_177 (dk_at dksJ13_fill_1 3 rfl rfl)
abbrev cJ13_rangeCheck : ByteArray := prog_56_method_30_code
def yJ13_rangeCheck : MethodName := ⟨RJ13, "rangeCheck", "(III)V"⟩
def dkwJ13_rangeCheck_3 : List UInt8 := [183, 0, 70, 191, 177]
abbrev dktJ13_rangeCheck_3 : List UInt8 := dkwJ13_rangeCheck_3 ++ []
def dkwJ13_rangeCheck_2 : List UInt8 := [27, 156, 0, 12, 187, 0, 68, 89, 27, 183, 0, 70, 191, 28, 26, 164, 0, 12, 187, 0, 68, 89, 28]
abbrev dktJ13_rangeCheck_2 : List UInt8 := dkwJ13_rangeCheck_2 ++ dktJ13_rangeCheck_3
def dkwJ13_rangeCheck_1 : List UInt8 := [182, 0, 54, 18, 57, 182, 0, 50, 28, 182, 0, 54, 18, 59, 182, 0, 50, 182, 0, 61, 183, 0, 65, 191]
abbrev dktJ13_rangeCheck_1 : List UInt8 := dkwJ13_rangeCheck_1 ++ dktJ13_rangeCheck_2
def dkwJ13_rangeCheck_0 : List UInt8 := [27, 28, 164, 0, 44, 187, 0, 43, 89, 187, 0, 45, 89, 183, 0, 47, 18, 48, 182, 0, 50, 27]
abbrev dktJ13_rangeCheck_0 : List UInt8 := dkwJ13_rangeCheck_0 ++ dktJ13_rangeCheck_1
theorem dksJ13_rangeCheck_0 : cJ13_rangeCheck.data.toList.drop 0 = dktJ13_rangeCheck_0 := by decide +kernel
theorem dksJ13_rangeCheck_1 : cJ13_rangeCheck.data.toList.drop 22 = dktJ13_rangeCheck_1 := dk_seg dksJ13_rangeCheck_0 22 rfl rfl
theorem dksJ13_rangeCheck_2 : cJ13_rangeCheck.data.toList.drop 46 = dktJ13_rangeCheck_2 := dk_seg dksJ13_rangeCheck_1 24 rfl rfl
theorem dksJ13_rangeCheck_3 : cJ13_rangeCheck.data.toList.drop 69 = dktJ13_rangeCheck_3 := dk_seg dksJ13_rangeCheck_2 23 rfl rfl
theorem dJ13_rangeCheck_0 : decode cJ13_rangeCheck 0 = .ok (.iload_n 1, 1) := dk_27 (dk_at dksJ13_rangeCheck_0 0 rfl rfl)
theorem dJ13_rangeCheck_1 : decode cJ13_rangeCheck 1 = .ok (.iload_n 2, 1) := dk_28 (dk_at dksJ13_rangeCheck_0 1 rfl rfl)
theorem dJ13_rangeCheck_2 : decode cJ13_rangeCheck 2 = .ok (.if_icmp .le 44, 3) := dk_164 0 44 (dk_at dksJ13_rangeCheck_0 2 rfl rfl)
theorem dJ13_rangeCheck_5 : decode cJ13_rangeCheck 5 = .ok (.new 43, 3) := dk_187 0 43 (dk_at dksJ13_rangeCheck_0 5 rfl rfl)
theorem dJ13_rangeCheck_8 : decode cJ13_rangeCheck 8 = .ok (.dup, 1) := dk_89 (dk_at dksJ13_rangeCheck_0 8 rfl rfl)
theorem dJ13_rangeCheck_9 : decode cJ13_rangeCheck 9 = .ok (.new 45, 3) := dk_187 0 45 (dk_at dksJ13_rangeCheck_0 9 rfl rfl)
theorem dJ13_rangeCheck_12 : decode cJ13_rangeCheck 12 = .ok (.dup, 1) := dk_89 (dk_at dksJ13_rangeCheck_0 12 rfl rfl)
theorem dJ13_rangeCheck_13 : decode cJ13_rangeCheck 13 = .ok (.invokespecial 47, 3) := dk_183 0 47 (dk_at dksJ13_rangeCheck_0 13 rfl rfl)
theorem dJ13_rangeCheck_16 : decode cJ13_rangeCheck 16 = .ok (.ldc 48, 2) := dk_18 48 (dk_at dksJ13_rangeCheck_0 16 rfl rfl)
theorem dJ13_rangeCheck_18 : decode cJ13_rangeCheck 18 = .ok (.invokevirtual 50, 3) := dk_182 0 50 (dk_at dksJ13_rangeCheck_0 18 rfl rfl)
theorem dJ13_rangeCheck_21 : decode cJ13_rangeCheck 21 = .ok (.iload_n 1, 1) := dk_27 (dk_at dksJ13_rangeCheck_0 21 rfl rfl)
theorem dJ13_rangeCheck_22 : decode cJ13_rangeCheck 22 = .ok (.invokevirtual 54, 3) := dk_182 0 54 (dk_at dksJ13_rangeCheck_1 0 rfl rfl)
theorem dJ13_rangeCheck_25 : decode cJ13_rangeCheck 25 = .ok (.ldc 57, 2) := dk_18 57 (dk_at dksJ13_rangeCheck_1 3 rfl rfl)
theorem dJ13_rangeCheck_27 : decode cJ13_rangeCheck 27 = .ok (.invokevirtual 50, 3) := dk_182 0 50 (dk_at dksJ13_rangeCheck_1 5 rfl rfl)
theorem dJ13_rangeCheck_30 : decode cJ13_rangeCheck 30 = .ok (.iload_n 2, 1) := dk_28 (dk_at dksJ13_rangeCheck_1 8 rfl rfl)
theorem dJ13_rangeCheck_31 : decode cJ13_rangeCheck 31 = .ok (.invokevirtual 54, 3) := dk_182 0 54 (dk_at dksJ13_rangeCheck_1 9 rfl rfl)
theorem dJ13_rangeCheck_34 : decode cJ13_rangeCheck 34 = .ok (.ldc 59, 2) := dk_18 59 (dk_at dksJ13_rangeCheck_1 12 rfl rfl)
theorem dJ13_rangeCheck_36 : decode cJ13_rangeCheck 36 = .ok (.invokevirtual 50, 3) := dk_182 0 50 (dk_at dksJ13_rangeCheck_1 14 rfl rfl)
theorem dJ13_rangeCheck_39 : decode cJ13_rangeCheck 39 = .ok (.invokevirtual 61, 3) := dk_182 0 61 (dk_at dksJ13_rangeCheck_1 17 rfl rfl)
theorem dJ13_rangeCheck_42 : decode cJ13_rangeCheck 42 = .ok (.invokespecial 65, 3) := dk_183 0 65 (dk_at dksJ13_rangeCheck_1 20 rfl rfl)
theorem dJ13_rangeCheck_45 : decode cJ13_rangeCheck 45 = .ok (.athrow, 1) := dk_191 (dk_at dksJ13_rangeCheck_1 23 rfl rfl)
theorem dJ13_rangeCheck_46 : decode cJ13_rangeCheck 46 = .ok (.iload_n 1, 1) := dk_27 (dk_at dksJ13_rangeCheck_2 0 rfl rfl)
theorem dJ13_rangeCheck_47 : decode cJ13_rangeCheck 47 = .ok (.ifCond .ge 12, 3) := dk_156 0 12 (dk_at dksJ13_rangeCheck_2 1 rfl rfl)
theorem dJ13_rangeCheck_50 : decode cJ13_rangeCheck 50 = .ok (.new 68, 3) := dk_187 0 68 (dk_at dksJ13_rangeCheck_2 4 rfl rfl)
theorem dJ13_rangeCheck_53 : decode cJ13_rangeCheck 53 = .ok (.dup, 1) := dk_89 (dk_at dksJ13_rangeCheck_2 7 rfl rfl)
theorem dJ13_rangeCheck_54 : decode cJ13_rangeCheck 54 = .ok (.iload_n 1, 1) := dk_27 (dk_at dksJ13_rangeCheck_2 8 rfl rfl)
theorem dJ13_rangeCheck_55 : decode cJ13_rangeCheck 55 = .ok (.invokespecial 70, 3) := dk_183 0 70 (dk_at dksJ13_rangeCheck_2 9 rfl rfl)
theorem dJ13_rangeCheck_58 : decode cJ13_rangeCheck 58 = .ok (.athrow, 1) := dk_191 (dk_at dksJ13_rangeCheck_2 12 rfl rfl)
theorem dJ13_rangeCheck_59 : decode cJ13_rangeCheck 59 = .ok (.iload_n 2, 1) := dk_28 (dk_at dksJ13_rangeCheck_2 13 rfl rfl)
theorem dJ13_rangeCheck_60 : decode cJ13_rangeCheck 60 = .ok (.iload_n 0, 1) := dk_26 (dk_at dksJ13_rangeCheck_2 14 rfl rfl)
theorem dJ13_rangeCheck_61 : decode cJ13_rangeCheck 61 = .ok (.if_icmp .le 12, 3) := dk_164 0 12 (dk_at dksJ13_rangeCheck_2 15 rfl rfl)
theorem dJ13_rangeCheck_64 : decode cJ13_rangeCheck 64 = .ok (.new 68, 3) := dk_187 0 68 (dk_at dksJ13_rangeCheck_2 18 rfl rfl)
theorem dJ13_rangeCheck_67 : decode cJ13_rangeCheck 67 = .ok (.dup, 1) := dk_89 (dk_at dksJ13_rangeCheck_2 21 rfl rfl)
theorem dJ13_rangeCheck_68 : decode cJ13_rangeCheck 68 = .ok (.iload_n 2, 1) := dk_28 (dk_at dksJ13_rangeCheck_2 22 rfl rfl)
theorem dJ13_rangeCheck_69 : decode cJ13_rangeCheck 69 = .ok (.invokespecial 70, 3) := dk_183 0 70 (dk_at dksJ13_rangeCheck_3 0 rfl rfl)
theorem dJ13_rangeCheck_72 : decode cJ13_rangeCheck 72 = .ok (.athrow, 1) := dk_191 (dk_at dksJ13_rangeCheck_3 3 rfl rfl)
theorem dJ13_rangeCheck_73 : decode cJ13_rangeCheck 73 = .ok (.return_, 1) := dk_177 (dk_at dksJ13_rangeCheck_3 4 rfl rfl)
theorem q94 : (Jvm.Cond.initialized "java/util/Arrays") ∈ lw_all := lw_g (lw_at lw_m1 21 rfl) rfl
theorem q573 : (Jvm.Cond.static ({ cls := "java/util/Arrays", name := "copyOf", desc := "([BI)[B" } : Jvm.MethodName)) ∈ lw_all := lw_g (lw_at lw_m3 20 rfl) rfl
theorem q574 : (Jvm.Cond.code ({ cls := "java/util/Arrays", name := "copyOf", desc := "([BI)[B" } : Jvm.MethodName) prog_56_method_121_code (3 : Nat) (Option.some (Jvm.ClassFile.FieldType.array Jvm.ClassFile.FieldType.byte))) ∈ lw_all := lw_g (lw_at lw_m3 21 rfl) rfl
theorem q582 : (Jvm.Cond.methodLink "java/util/Arrays" (304 : Nat) ({ cls := "java/lang/Math", name := "min", desc := "(II)I" } : Jvm.MethodName)) ∈ lw_all := lw_g (lw_at lw_m3 29 rfl) rfl
theorem q585 : (Jvm.Cond.methodLink "java/util/Arrays" (150 : Nat) ({ cls := "java/lang/System", name := "arraycopy", desc := "(Ljava/lang/Object;ILjava/lang/Object;II)V" } : Jvm.MethodName)) ∈ lw_all := lw_g (lw_at lw_m3 32 rfl) rfl
theorem q725 : (Jvm.Cond.static ({ cls := "java/util/Arrays", name := "copyOfRange", desc := "([BII)[B" } : Jvm.MethodName)) ∈ lw_all := lw_g (lw_at lw_m3 172 rfl) rfl
theorem q726 : (Jvm.Cond.code ({ cls := "java/util/Arrays", name := "copyOfRange", desc := "([BII)[B" } : Jvm.MethodName) prog_56_method_132_code (3 : Nat) (Option.some (Jvm.ClassFile.FieldType.array Jvm.ClassFile.FieldType.byte))) ∈ lw_all := lw_g (lw_at lw_m3 173 rfl) rfl
theorem q727 : (Jvm.Cond.methodLink "java/util/Arrays" (339 : Nat) ({ cls := "java/util/Arrays", name := "copyOfRangeByte", desc := "([BII)[B" } : Jvm.MethodName)) ∈ lw_all := lw_g (lw_at lw_m3 174 rfl) rfl
theorem q728 : (Jvm.Cond.static ({ cls := "java/util/Arrays", name := "copyOfRangeByte", desc := "([BII)[B" } : Jvm.MethodName)) ∈ lw_all := lw_g (lw_at lw_m3 175 rfl) rfl
theorem q729 : (Jvm.Cond.code ({ cls := "java/util/Arrays", name := "copyOfRangeByte", desc := "([BII)[B" } : Jvm.MethodName) prog_56_method_133_code (5 : Nat) (Option.some (Jvm.ClassFile.FieldType.array Jvm.ClassFile.FieldType.byte))) ∈ lw_all := lw_g (lw_at lw_m3 176 rfl) rfl
theorem q730 : (Jvm.Cond.methodLink "java/util/Arrays" (343 : Nat) ({ cls := "java/util/Arrays", name := "checkLength", desc := "(II)V" } : Jvm.MethodName)) ∈ lw_all := lw_g (lw_at lw_m3 177 rfl) rfl
theorem q731 : (Jvm.Cond.static ({ cls := "java/util/Arrays", name := "checkLength", desc := "(II)V" } : Jvm.MethodName)) ∈ lw_all := lw_g (lw_at lw_m3 178 rfl) rfl
theorem q732 : (Jvm.Cond.code ({ cls := "java/util/Arrays", name := "checkLength", desc := "(II)V" } : Jvm.MethodName) prog_56_method_131_code (2 : Nat) (Option.none : Option Jvm.ClassFile.FieldType)) ∈ lw_all := lw_g (lw_at lw_m3 179 rfl) rfl
theorem q733 : (Jvm.Cond.classLink "java/util/Arrays" (43 : Nat) "java/lang/IllegalArgumentException") ∈ lw_all := lw_g (lw_at lw_m3 180 rfl) rfl
theorem q742 : (Jvm.Cond.classLink "java/util/Arrays" (45 : Nat) "java/lang/StringBuilder") ∈ lw_all := lw_g (lw_at lw_m3 189 rfl) rfl
theorem q743 : (Jvm.Cond.methodLink "java/util/Arrays" (47 : Nat) ({ cls := "java/lang/StringBuilder", name := "<init>", desc := "()V" } : Jvm.MethodName)) ∈ lw_all := lw_g (lw_at lw_m3 190 rfl) rfl
theorem q744 : (Jvm.Cond.methodLink "java/util/Arrays" (54 : Nat) ({ cls := "java/lang/StringBuilder", name := "append", desc := "(I)Ljava/lang/StringBuilder;" } : Jvm.MethodName)) ∈ lw_all := lw_g (lw_at lw_m3 191 rfl) rfl
theorem q849 : (Jvm.Cond.static ({ cls := "java/util/Arrays", name := "copyOf", desc := "([Ljava/lang/Object;I)[Ljava/lang/Object;" } : Jvm.MethodName)) ∈ lw_all := lw_g (lw_at lw_m4 56 rfl) rfl
theorem q850 : (Jvm.Cond.code ({ cls := "java/util/Arrays", name := "copyOf", desc := "([Ljava/lang/Object;I)[Ljava/lang/Object;" } : Jvm.MethodName) prog_56_method_119_code (2 : Nat) (Option.some (Jvm.ClassFile.FieldType.array (Jvm.ClassFile.FieldType.object "java/lang/Object")))) ∈ lw_all := lw_g (lw_at lw_m4 57 rfl) rfl
theorem q851 : (Jvm.Cond.methodLink "java/util/Arrays" (86 : Nat) ({ cls := "java/lang/Object", name := "getClass", desc := "()Ljava/lang/Class;" } : Jvm.MethodName)) ∈ lw_all := lw_g (lw_at lw_m4 58 rfl) rfl
theorem q891 : (Jvm.Cond.methodLink "java/util/Arrays" (300 : Nat) ({ cls := "java/util/Arrays", name := "copyOf", desc := "([Ljava/lang/Object;ILjava/lang/Class;)[Ljava/lang/Object;" } : Jvm.MethodName)) ∈ lw_all := lw_g (lw_at lw_m4 98 rfl) rfl
theorem q892 : (Jvm.Cond.static ({ cls := "java/util/Arrays", name := "copyOf", desc := "([Ljava/lang/Object;ILjava/lang/Class;)[Ljava/lang/Object;" } : Jvm.MethodName)) ∈ lw_all := lw_g (lw_at lw_m4 99 rfl) rfl
theorem q893 : (Jvm.Cond.code ({ cls := "java/util/Arrays", name := "copyOf", desc := "([Ljava/lang/Object;ILjava/lang/Class;)[Ljava/lang/Object;" } : Jvm.MethodName) prog_56_method_120_code (4 : Nat) (Option.some (Jvm.ClassFile.FieldType.array (Jvm.ClassFile.FieldType.object "java/lang/Object")))) ∈ lw_all := lw_g (lw_at lw_m4 100 rfl) rfl
theorem q894 : (Jvm.Cond.classLink "java/util/Arrays" (110 : Nat) "[Ljava/lang/Object;") ∈ lw_all := lw_g (lw_at lw_m4 101 rfl) rfl
theorem q896 : (Jvm.Cond.classLink "java/util/Arrays" (2 : Nat) "java/lang/Object") ∈ lw_all := lw_g (lw_at lw_m4 103 rfl) rfl
theorem q2515 : (Jvm.Cond.static ({ cls := "java/util/Arrays", name := "fill", desc := "([BIIB)V" } : Jvm.MethodName)) ∈ lw_all := lw_g (lw_at lw_m11 42 rfl) rfl
theorem q2516 : (Jvm.Cond.code ({ cls := "java/util/Arrays", name := "fill", desc := "([BIIB)V" } : Jvm.MethodName) prog_56_method_110_code (5 : Nat) (Option.none : Option Jvm.ClassFile.FieldType)) ∈ lw_all := lw_g (lw_at lw_m11 43 rfl) rfl
theorem q2517 : (Jvm.Cond.methodLink "java/util/Arrays" (13 : Nat) ({ cls := "java/util/Arrays", name := "rangeCheck", desc := "(III)V" } : Jvm.MethodName)) ∈ lw_all := lw_g (lw_at lw_m11 44 rfl) rfl
theorem q2518 : (Jvm.Cond.static ({ cls := "java/util/Arrays", name := "rangeCheck", desc := "(III)V" } : Jvm.MethodName)) ∈ lw_all := lw_g (lw_at lw_m11 45 rfl) rfl
theorem q2519 : (Jvm.Cond.code ({ cls := "java/util/Arrays", name := "rangeCheck", desc := "(III)V" } : Jvm.MethodName) prog_56_method_30_code (3 : Nat) (Option.none : Option Jvm.ClassFile.FieldType)) ∈ lw_all := lw_g (lw_at lw_m11 46 rfl) rfl
theorem q2523 : (Jvm.Cond.classLink "java/util/Arrays" (68 : Nat) "java/lang/ArrayIndexOutOfBoundsException") ∈ lw_all := lw_g (lw_at lw_m11 50 rfl) rfl
/-! java/util/ArrayList$Itr -/
def RJ14 : String := "java/util/ArrayList$Itr"
abbrev cJ14_init : ByteArray := prog_55_method_1_code
def yJ14_init : MethodName := ⟨RJ14, "<init>", "(Ljava/util/ArrayList;)V"⟩
def dkwJ14_init_1 : List UInt8 := [181, 0, 22, 177]
abbrev dktJ14_init_1 : List UInt8 := dkwJ14_init_1 ++ []
def dkwJ14_init_0 : List UInt8 := [42, 43, 181, 0, 1, 42, 183, 0, 7, 42, 2, 181, 0, 13, 42, 42, 180, 0, 1, 180, 0, 17]
abbrev dktJ14_init_0 : List UInt8 := dkwJ14_init_0 ++ dktJ14_init_1
theorem dksJ14_init_0 : cJ14_init.data.toList.drop 0 = dktJ14_init_0 := by decide +kernel
theorem dksJ14_init_1 : cJ14_init.data.toList.drop 22 = dktJ14_init_1 := dk_seg dksJ14_init_0 22 rfl rfl
theorem dJ14_init_0 : decode cJ14_init 0 = .ok (.aload_n 0, 1) := dk_42 (dk_at dksJ14_init_0 0 rfl rfl)
theorem dJ14_init_1 : decode cJ14_init 1 = .ok (.aload_n 1, 1) := dk_43 (dk_at dksJ14_init_0 1 rfl rfl)
theorem dJ14_init_2 : decode cJ14_init 2 = .ok (.putfield 1, 3) := dk_181 0 1 (dk_at dksJ14_init_0 2 rfl rfl)
theorem dJ14_init_5 : decode cJ14_init 5 = .ok (.aload_n 0, 1) := dk_42 (dk_at dksJ14_init_0 5 rfl rfl)
theorem dJ14_init_6 : decode cJ14_init 6 = .ok (.invokespecial 7, 3) := dk_183 0 7 (dk_at dksJ14_init_0 6 rfl rfl)
theorem dJ14_init_9 : decode cJ14_init 9 = .ok (.aload_n 0, 1) := dk_42 (dk_at dksJ14_init_0 9 rfl rfl)
theorem dJ14_init_10 : decode cJ14_init 10 = .ok (.iconst (-1), 1) := dk_2 (dk_at dksJ14_init_0 10 rfl rfl)
theorem dJ14_init_11 : decode cJ14_init 11 = .ok (.putfield 13, 3) := dk_181 0 13 (dk_at dksJ14_init_0 11 rfl rfl)
theorem dJ14_init_14 : decode cJ14_init 14 = .ok (.aload_n 0, 1) := dk_42 (dk_at dksJ14_init_0 14 rfl rfl)
theorem dJ14_init_15 : decode cJ14_init 15 = .ok (.aload_n 0, 1) := dk_42 (dk_at dksJ14_init_0 15 rfl rfl)
theorem dJ14_init_16 : decode cJ14_init 16 = .ok (.getfield 1, 3) := dk_180 0 1 (dk_at dksJ14_init_0 16 rfl rfl)
theorem dJ14_init_19 : decode cJ14_init 19 = .ok (.getfield 17, 3) := dk_180 0 17 (dk_at dksJ14_init_0 19 rfl rfl)
theorem dJ14_init_22 : decode cJ14_init 22 = .ok (.putfield 22, 3) := dk_181 0 22 (dk_at dksJ14_init_1 0 rfl rfl)
theorem dJ14_init_25 : decode cJ14_init 25 = .ok (.return_, 1) := dk_177 (dk_at dksJ14_init_1 3 rfl rfl)
abbrev cJ14_hasNext : ByteArray := prog_55_method_2_code
def yJ14_hasNext : MethodName := ⟨RJ14, "hasNext", "()Z"⟩
def dkwJ14_hasNext_0 : List UInt8 := [42, 180, 0, 25, 42, 180, 0, 1, 180, 0, 28, 159, 0, 7, 4, 167, 0, 4, 3, 172]
abbrev dktJ14_hasNext_0 : List UInt8 := dkwJ14_hasNext_0 ++ []
theorem dksJ14_hasNext_0 : cJ14_hasNext.data.toList.drop 0 = dktJ14_hasNext_0 := by decide +kernel
theorem dJ14_hasNext_0 : decode cJ14_hasNext 0 = .ok (.aload_n 0, 1) := dk_42 (dk_at dksJ14_hasNext_0 0 rfl rfl)
theorem dJ14_hasNext_1 : decode cJ14_hasNext 1 = .ok (.getfield 25, 3) := dk_180 0 25 (dk_at dksJ14_hasNext_0 1 rfl rfl)
theorem dJ14_hasNext_4 : decode cJ14_hasNext 4 = .ok (.aload_n 0, 1) := dk_42 (dk_at dksJ14_hasNext_0 4 rfl rfl)
theorem dJ14_hasNext_5 : decode cJ14_hasNext 5 = .ok (.getfield 1, 3) := dk_180 0 1 (dk_at dksJ14_hasNext_0 5 rfl rfl)
theorem dJ14_hasNext_8 : decode cJ14_hasNext 8 = .ok (.getfield 28, 3) := dk_180 0 28 (dk_at dksJ14_hasNext_0 8 rfl rfl)
theorem dJ14_hasNext_11 : decode cJ14_hasNext 11 = .ok (.if_icmp .eq 7, 3) := dk_159 0 7 (dk_at dksJ14_hasNext_0 11 rfl rfl)
theorem dJ14_hasNext_14 : decode cJ14_hasNext 14 = .ok (.iconst 1, 1) := dk_4 (dk_at dksJ14_hasNext_0 14 rfl rfl)
theorem dJ14_hasNext_15 : decode cJ14_hasNext 15 = .ok (.goto 4, 3) := dk_167 0 4 (dk_at dksJ14_hasNext_0 15 rfl rfl)
theorem dJ14_hasNext_18 : decode cJ14_hasNext 18 = .ok (.iconst 0, 1) := dk_3 (dk_at dksJ14_hasNext_0 18 rfl rfl)
theorem dJ14_hasNext_19 : decode cJ14_hasNext 19 = .ok (.ireturn, 1) := dk_172 (dk_at dksJ14_hasNext_0 19 rfl rfl)
abbrev cJ14_next : ByteArray := prog_55_method_3_code
def yJ14_next : MethodName := ⟨RJ14, "next", "()Ljava/lang/Object;"⟩
def dkwJ14_next_2 : List UInt8 := [183, 0, 43, 191, 42, 27, 4, 96, 181, 0, 25, 44, 42, 27, 90, 181, 0, 13, 50, 176]
abbrev dktJ14_next_2 : List UInt8 := dkwJ14_next_2 ++ []
def dkwJ14_next_1 : List UInt8 := [183, 0, 36, 191, 42, 180, 0, 1, 180, 0, 37, 77, 27, 44, 190, 161, 0, 11, 187, 0, 41, 89]
abbrev dktJ14_next_1 : List UInt8 := dkwJ14_next_1 ++ dktJ14_next_2
def dkwJ14_next_0 : List UInt8 := [42, 182, 0, 31, 42, 180, 0, 25, 60, 27, 42, 180, 0, 1, 180, 0, 28, 161, 0, 11, 187, 0, 34, 89]
abbrev dktJ14_next_0 : List UInt8 := dkwJ14_next_0 ++ dktJ14_next_1
theorem dksJ14_next_0 : cJ14_next.data.toList.drop 0 = dktJ14_next_0 := by decide +kernel
theorem dksJ14_next_1 : cJ14_next.data.toList.drop 24 = dktJ14_next_1 := dk_seg dksJ14_next_0 24 rfl rfl
theorem dksJ14_next_2 : cJ14_next.data.toList.drop 46 = dktJ14_next_2 := dk_seg dksJ14_next_1 22 rfl rfl
theorem dJ14_next_0 : decode cJ14_next 0 = .ok (.aload_n 0, 1) := dk_42 (dk_at dksJ14_next_0 0 rfl rfl)
theorem dJ14_next_1 : decode cJ14_next 1 = .ok (.invokevirtual 31, 3) := dk_182 0 31 (dk_at dksJ14_next_0 1 rfl rfl)
theorem dJ14_next_4 : decode cJ14_next 4 = .ok (.aload_n 0, 1) := dk_42 (dk_at dksJ14_next_0 4 rfl rfl)
theorem dJ14_next_5 : decode cJ14_next 5 = .ok (.getfield 25, 3) := dk_180 0 25 (dk_at dksJ14_next_0 5 rfl rfl)
theorem dJ14_next_8 : decode cJ14_next 8 = .ok (.istore_n 1, 1) := dk_60 (dk_at dksJ14_next_0 8 rfl rfl)
theorem dJ14_next_9 : decode cJ14_next 9 = .ok (.iload_n 1, 1) := dk_27 (dk_at dksJ14_next_0 9 rfl rfl)
theorem dJ14_next_10 : decode cJ14_next 10 = .ok (.aload_n 0, 1) := dk_42 (dk_at dksJ14_next_0 10 rfl rfl)
theorem dJ14_next_11 : decode cJ14_next 11 = .ok (.getfield 1, 3) := dk_180 0 1 (dk_at dksJ14_next_0 11 rfl rfl)
theorem dJ14_next_14 : decode cJ14_next 14 = .ok (.getfield 28, 3) := dk_180 0 28 (dk_at dksJ14_next_0 14 rfl rfl)
theorem dJ14_next_17 : decode cJ14_next 17 = .ok (.if_icmp .lt 11, 3) := dk_161 0 11 (dk_at dksJ14_next_0 17 rfl rfl)
theorem dJ14_next_20 : decode cJ14_next 20 = .ok (.new 34, 3) := dk_187 0 34 (dk_at dksJ14_next_0 20 rfl rfl)
theorem dJ14_next_23 : decode cJ14_next 23 = .ok (.dup, 1) := dk_89 (dk_at dksJ14_next_0 23 rfl rfl)
theorem dJ14_next_24 : decode cJ14_next 24 = .ok (.invokespecial 36, 3) := dk_183 0 36 (dk_at dksJ14_next_1 0 rfl rfl)
theorem dJ14_next_27 : decode cJ14_next 27 = .ok (.athrow, 1) := dk_191 (dk_at dksJ14_next_1 3 rfl rfl)
theorem dJ14_next_28 : decode cJ14_next 28 = .ok (.aload_n 0, 1) := dk_42 (dk_at dksJ14_next_1 4 rfl rfl)
theorem dJ14_next_29 : decode cJ14_next 29 = .ok (.getfield 1, 3) := dk_180 0 1 (dk_at dksJ14_next_1 5 rfl rfl)
theorem dJ14_next_32 : decode cJ14_next 32 = .ok (.getfield 37, 3) := dk_180 0 37 (dk_at dksJ14_next_1 8 rfl rfl)
theorem dJ14_next_35 : decode cJ14_next 35 = .ok (.astore_n 2, 1) := dk_77 (dk_at dksJ14_next_1 11 rfl rfl)
theorem dJ14_next_36 : decode cJ14_next 36 = .ok (.iload_n 1, 1) := dk_27 (dk_at dksJ14_next_1 12 rfl rfl)
theorem dJ14_next_37 : decode cJ14_next 37 = .ok (.aload_n 2, 1) := dk_44 (dk_at dksJ14_next_1 13 rfl rfl)
theorem dJ14_next_38 : decode cJ14_next 38 = .ok (.arraylength, 1) := dk_190 (dk_at dksJ14_next_1 14 rfl rfl)
theorem dJ14_next_39 : decode cJ14_next 39 = .ok (.if_icmp .lt 11, 3) := dk_161 0 11 (dk_at dksJ14_next_1 15 rfl rfl)
theorem dJ14_next_42 : decode cJ14_next 42 = .ok (.new 41, 3) := dk_187 0 41 (dk_at dksJ14_next_1 18 rfl rfl)
theorem dJ14_next_45 : decode cJ14_next 45 = .ok (.dup, 1) := dk_89 (dk_at dksJ14_next_1 21 rfl rfl)
theorem dJ14_next_46 : decode cJ14_next 46 = .ok (.invokespecial 43, 3) := dk_183 0 43 (dk_at dksJ14_next_2 0 rfl rfl)
theorem dJ14_next_49 : decode cJ14_next 49 = .ok (.athrow, 1) := dk_191 (dk_at dksJ14_next_2 3 rfl rfl)
theorem dJ14_next_50 : decode cJ14_next 50 = .ok (.aload_n 0, 1) := dk_42 (dk_at dksJ14_next_2 4 rfl rfl)
theorem dJ14_next_51 : decode cJ14_next 51 = .ok (.iload_n 1, 1) := dk_27 (dk_at dksJ14_next_2 5 rfl rfl)
theorem dJ14_next_52 : decode cJ14_next 52 = .ok (.iconst 1, 1) := dk_4 (dk_at dksJ14_next_2 6 rfl rfl)
theorem dJ14_next_53 : decode cJ14_next 53 = .ok (.iadd, 1) := dk_96 (dk_at dksJ14_next_2 7 rfl rfl)
theorem dJ14_next_54 : decode cJ14_next 54 = .ok (.putfield 25, 3) := dk_181 0 25 (dk_at dksJ14_next_2 8 rfl rfl)
theorem dJ14_next_57 : decode cJ14_next 57 = .ok (.aload_n 2, 1) := dk_44 (dk_at dksJ14_next_2 11 rfl rfl)
theorem dJ14_next_58 : decode cJ14_next 58 = .ok (.aload_n 0, 1) := dk_42 (dk_at dksJ14_next_2 12 rfl rfl)
theorem dJ14_next_59 : decode cJ14_next 59 = .ok (.iload_n 1, 1) := dk_27 (dk_at dksJ14_next_2 13 rfl rfl)
theorem dJ14_next_60 : decode cJ14_next 60 = .ok (.dup_x1, 1) := dk_90 (dk_at dksJ14_next_2 14 rfl rfl)
theorem dJ14_next_61 : decode cJ14_next 61 = .ok (.putfield 13, 3) := dk_181 0 13 (dk_at dksJ14_next_2 15 rfl rfl)
theorem dJ14_next_64 : decode cJ14_next 64 = .ok (.aaload, 1) := dk_50 (dk_at dksJ14_next_2 18 rfl rfl)
theorem dJ14_next_65 : decode cJ14_next 65 = .ok (.areturn, 1) := dk_176 (dk_at dksJ14_next_2 19 rfl rfl)
abbrev cJ14_checkForComodification : ByteArray := prog_55_method_6_code
def yJ14_checkForComodification : MethodName := ⟨RJ14, "checkForComodification", "()V"⟩
def dkwJ14_checkForComodification_0 : List UInt8 := [42, 180, 0, 1, 180, 0, 17, 42, 180, 0, 22, 159, 0, 11, 187, 0, 41, 89, 183, 0, 43, 191, 177]
abbrev dktJ14_checkForComodification_0 : List UInt8 := dkwJ14_checkForComodification_0 ++ []
theorem dksJ14_checkForComodification_0 : cJ14_checkForComodification.data.toList.drop 0 = dktJ14_checkForComodification_0 := by decide +kernel
theorem dJ14_checkForComodification_0 : decode cJ14_checkForComodification 0 = .ok (.aload_n 0, 1) := dk_42 (dk_at dksJ14_checkForComodification_0 0 rfl rfl)
theorem dJ14_checkForComodification_1 : decode cJ14_checkForComodification 1 = .ok (.getfield 1, 3) := dk_180 0 1 (dk_at dksJ14_checkForComodification_0 1 rfl rfl)
theorem dJ14_checkForComodification_4 : decode cJ14_checkForComodification 4 = .ok (.getfield 17, 3) := dk_180 0 17 (dk_at dksJ14_checkForComodification_0 4 rfl rfl)
theorem dJ14_checkForComodification_7 : decode cJ14_checkForComodification 7 = .ok (.aload_n 0, 1) := dk_42 (dk_at dksJ14_checkForComodification_0 7 rfl rfl)
theorem dJ14_checkForComodification_8 : decode cJ14_checkForComodification 8 = .ok (.getfield 22, 3) := dk_180 0 22 (dk_at dksJ14_checkForComodification_0 8 rfl rfl)
theorem dJ14_checkForComodification_11 : decode cJ14_checkForComodification 11 = .ok (.if_icmp .eq 11, 3) := dk_159 0 11 (dk_at dksJ14_checkForComodification_0 11 rfl rfl)
theorem dJ14_checkForComodification_14 : decode cJ14_checkForComodification 14 = .ok (.new 41, 3) := dk_187 0 41 (dk_at dksJ14_checkForComodification_0 14 rfl rfl)
theorem dJ14_checkForComodification_17 : decode cJ14_checkForComodification 17 = .ok (.dup, 1) := dk_89 (dk_at dksJ14_checkForComodification_0 17 rfl rfl)
theorem dJ14_checkForComodification_18 : decode cJ14_checkForComodification 18 = .ok (.invokespecial 43, 3) := dk_183 0 43 (dk_at dksJ14_checkForComodification_0 18 rfl rfl)
theorem dJ14_checkForComodification_21 : decode cJ14_checkForComodification 21 = .ok (.athrow, 1) := dk_191 (dk_at dksJ14_checkForComodification_0 21 rfl rfl)
theorem dJ14_checkForComodification_22 : decode cJ14_checkForComodification 22 = .ok (.return_, 1) := dk_177 (dk_at dksJ14_checkForComodification_0 22 rfl rfl)
theorem q96 : (Jvm.Cond.initialized "java/util/ArrayList$Itr") ∈ lw_all := lw_g (lw_at lw_m1 23 rfl) rfl
theorem q167 : (Jvm.Cond.fieldLink "java/util/ArrayList$Itr" (37 : Nat) "java/util/ArrayList" "elementData" "[Ljava/lang/Object;") ∈ lw_all := lw_g (lw_at lw_m1 94 rfl) rfl
theorem q168 : (Jvm.Cond.fieldLinkNest "java/util/ArrayList$Itr" (28 : Nat) "java/util/ArrayList" "size" "I" "java/util/ArrayList") ∈ lw_tbl := lw_at lw_m1 95 rfl
theorem q171 : (Jvm.Cond.fieldLink "java/util/ArrayList$Itr" (17 : Nat) "java/util/ArrayList" "modCount" "I") ∈ lw_all := lw_g (lw_at lw_m1 98 rfl) rfl
theorem q349 : (Jvm.Cond.instantiable "java/util/ArrayList$Itr" (4 : Nat)) ∈ lw_all := lw_g (lw_at lw_m2 36 rfl) rfl
theorem q351 : (Jvm.Cond.instanceMethod ({ cls := "java/util/ArrayList$Itr", name := "<init>", desc := "(Ljava/util/ArrayList;)V" } : Jvm.MethodName)) ∈ lw_all := lw_g (lw_at lw_m2 38 rfl) rfl
theorem q352 : (Jvm.Cond.code ({ cls := "java/util/ArrayList$Itr", name := "<init>", desc := "(Ljava/util/ArrayList;)V" } : Jvm.MethodName) prog_55_method_1_code (2 : Nat) (Option.none : Option Jvm.ClassFile.FieldType)) ∈ lw_all := lw_g (lw_at lw_m2 39 rfl) rfl
theorem q353 : (Jvm.Cond.methodLink "java/util/ArrayList$Itr" (7 : Nat) ({ cls := "java/lang/Object", name := "<init>", desc := "()V" } : Jvm.MethodName)) ∈ lw_all := lw_g (lw_at lw_m2 40 rfl) rfl
theorem q354 : (Jvm.Cond.fieldLink "java/util/ArrayList$Itr" (25 : Nat) "java/util/ArrayList$Itr" "cursor" "I") ∈ lw_all := lw_g (lw_at lw_m2 41 rfl) rfl
theorem q355 : (Jvm.Cond.fieldLink "java/util/ArrayList$Itr" (13 : Nat) "java/util/ArrayList$Itr" "lastRet" "I") ∈ lw_all := lw_g (lw_at lw_m2 42 rfl) rfl
theorem q356 : (Jvm.Cond.fieldLink "java/util/ArrayList$Itr" (22 : Nat) "java/util/ArrayList$Itr" "expectedModCount" "I") ∈ lw_all := lw_g (lw_at lw_m2 43 rfl) rfl
theorem q357 : (Jvm.Cond.fieldLink "java/util/ArrayList$Itr" (1 : Nat) "java/util/ArrayList$Itr" "this$0" "Ljava/util/ArrayList;") ∈ lw_all := lw_g (lw_at lw_m2 44 rfl) rfl
theorem q371 : (Jvm.Cond.castable "java/util/ArrayList$Itr" "java/util/Iterator") ∈ lw_tbl := lw_at lw_m2 58 rfl
theorem q372 : (Jvm.Cond.selects "java/util/ArrayList$Itr" ({ cls := "java/util/Iterator", name := "hasNext", desc := "()Z" } : Jvm.MethodName) ({ cls := "java/util/ArrayList$Itr", name := "hasNext", desc := "()Z" } : Jvm.MethodName)) ∈ lw_all := lw_g (lw_at lw_m2 59 rfl) rfl
theorem q373 : (Jvm.Cond.unhidden "java/util/ArrayList$Itr" "hasNext" "()Z") ∈ lw_tbl := lw_at lw_m2 60 rfl
theorem q374 : (Jvm.Cond.instanceMethod ({ cls := "java/util/ArrayList$Itr", name := "hasNext", desc := "()Z" } : Jvm.MethodName)) ∈ lw_all := lw_g (lw_at lw_m2 61 rfl) rfl
theorem q375 : (Jvm.Cond.publicMethod ({ cls := "java/util/ArrayList$Itr", name := "hasNext", desc := "()Z" } : Jvm.MethodName)) ∈ lw_tbl := lw_at lw_m2 62 rfl
theorem q376 : (Jvm.Cond.code ({ cls := "java/util/ArrayList$Itr", name := "hasNext", desc := "()Z" } : Jvm.MethodName) prog_55_method_2_code (1 : Nat) (Option.some Jvm.ClassFile.FieldType.boolean)) ∈ lw_all := lw_g (lw_at lw_m2 63 rfl) rfl
theorem q393 : (Jvm.Cond.selects "java/util/ArrayList$Itr" ({ cls := "java/util/Iterator", name := "next", desc := "()Ljava/lang/Object;" } : Jvm.MethodName) ({ cls := "java/util/ArrayList$Itr", name := "next", desc := "()Ljava/lang/Object;" } : Jvm.MethodName)) ∈ lw_all := lw_g (lw_at lw_m2 80 rfl) rfl
theorem q394 : (Jvm.Cond.unhidden "java/util/ArrayList$Itr" "next" "()Ljava/lang/Object;") ∈ lw_tbl := lw_at lw_m2 81 rfl
theorem q395 : (Jvm.Cond.instanceMethod ({ cls := "java/util/ArrayList$Itr", name := "next", desc := "()Ljava/lang/Object;" } : Jvm.MethodName)) ∈ lw_all := lw_g (lw_at lw_m2 82 rfl) rfl
theorem q396 : (Jvm.Cond.publicMethod ({ cls := "java/util/ArrayList$Itr", name := "next", desc := "()Ljava/lang/Object;" } : Jvm.MethodName)) ∈ lw_tbl := lw_at lw_m2 83 rfl
theorem q397 : (Jvm.Cond.code ({ cls := "java/util/ArrayList$Itr", name := "next", desc := "()Ljava/lang/Object;" } : Jvm.MethodName) prog_55_method_3_code (3 : Nat) (Option.some (Jvm.ClassFile.FieldType.object "java/lang/Object"))) ∈ lw_all := lw_g (lw_at lw_m2 84 rfl) rfl
theorem q398 : (Jvm.Cond.methodLink "java/util/ArrayList$Itr" (31 : Nat) ({ cls := "java/util/ArrayList$Itr", name := "checkForComodification", desc := "()V" } : Jvm.MethodName)) ∈ lw_all := lw_g (lw_at lw_m2 85 rfl) rfl
theorem q399 : (Jvm.Cond.instanceMethod ({ cls := "java/util/ArrayList$Itr", name := "checkForComodification", desc := "()V" } : Jvm.MethodName)) ∈ lw_all := lw_g (lw_at lw_m2 86 rfl) rfl
theorem q400 : (Jvm.Cond.selects "java/util/ArrayList$Itr" ({ cls := "java/util/ArrayList$Itr", name := "checkForComodification", desc := "()V" } : Jvm.MethodName) ({ cls := "java/util/ArrayList$Itr", name := "checkForComodification", desc := "()V" } : Jvm.MethodName)) ∈ lw_all := lw_g (lw_at lw_m2 87 rfl) rfl
theorem q401 : (Jvm.Cond.code ({ cls := "java/util/ArrayList$Itr", name := "checkForComodification", desc := "()V" } : Jvm.MethodName) prog_55_method_6_code (1 : Nat) (Option.none : Option Jvm.ClassFile.FieldType)) ∈ lw_all := lw_g (lw_at lw_m2 88 rfl) rfl
theorem q402 : (Jvm.Cond.classLink "java/util/ArrayList$Itr" (34 : Nat) "java/util/NoSuchElementException") ∈ lw_all := lw_g (lw_at lw_m2 89 rfl) rfl
theorem q451 : (Jvm.Cond.methodLink "java/util/ArrayList$Itr" (36 : Nat) ({ cls := "java/util/NoSuchElementException", name := "<init>", desc := "()V" } : Jvm.MethodName)) ∈ lw_all := lw_g (lw_at lw_m2 138 rfl) rfl
theorem q3511 : (Jvm.Cond.castable "java/util/ArrayList$Itr" "java/lang/Object") ∈ lw_tbl := lw_at lw_m15 78 rfl
/-! java/lang/RuntimeException -/
def RJ15 : String := "java/lang/RuntimeException"
abbrev cJ15_init : ByteArray := prog_37_method_1_code
def yJ15_init : MethodName := ⟨RJ15, "<init>", "()V"⟩
theorem dJ15_init_0 : decode cJ15_init 0 = .ok (.aload_n 0, 1) := by decide +kernel
theorem dJ15_init_1 : decode cJ15_init 1 = .ok (.invokespecial 1, 3) := by decide +kernel
theorem dJ15_init_4 : decode cJ15_init 4 = .ok (.return_, 1) := by decide +kernel
theorem q97 : (Jvm.Cond.initialized "java/lang/RuntimeException") ∈ lw_all := lw_g (lw_at lw_m1 24 rfl) rfl
theorem q455 : (Jvm.Cond.instanceMethod ({ cls := "java/lang/RuntimeException", name := "<init>", desc := "()V" } : Jvm.MethodName)) ∈ lw_all := lw_g (lw_at lw_m2 142 rfl) rfl
theorem q456 : (Jvm.Cond.code ({ cls := "java/lang/RuntimeException", name := "<init>", desc := "()V" } : Jvm.MethodName) prog_37_method_1_code (1 : Nat) (Option.none : Option Jvm.ClassFile.FieldType)) ∈ lw_all := lw_g (lw_at lw_m2 143 rfl) rfl
theorem q457 : (Jvm.Cond.methodLink "java/lang/RuntimeException" (1 : Nat) ({ cls := "java/lang/Exception", name := "<init>", desc := "()V" } : Jvm.MethodName)) ∈ lw_all := lw_g (lw_at lw_m2 144 rfl) rfl
/-! java/util/NoSuchElementException -/
def RJ16 : String := "java/util/NoSuchElementException"
abbrev cJ16_init : ByteArray := prog_76_method_1_code
def yJ16_init : MethodName := ⟨RJ16, "<init>", "()V"⟩
theorem dJ16_init_0 : decode cJ16_init 0 = .ok (.aload_n 0, 1) := by decide +kernel
theorem dJ16_init_1 : decode cJ16_init 1 = .ok (.invokespecial 1, 3) := by decide +kernel
theorem dJ16_init_4 : decode cJ16_init 4 = .ok (.return_, 1) := by decide +kernel
theorem q98 : (Jvm.Cond.initialized "java/util/NoSuchElementException") ∈ lw_all := lw_g (lw_at lw_m1 25 rfl) rfl
theorem q403 : (Jvm.Cond.instantiable "java/util/NoSuchElementException" (6 : Nat)) ∈ lw_all := lw_g (lw_at lw_m2 90 rfl) rfl
theorem q412 : (Jvm.Cond.selects "java/util/NoSuchElementException" ({ cls := "java/lang/Throwable", name := "fillInStackTrace", desc := "()Ljava/lang/Throwable;" } : Jvm.MethodName) ({ cls := "java/lang/Throwable", name := "fillInStackTrace", desc := "()Ljava/lang/Throwable;" } : Jvm.MethodName)) ∈ lw_all := lw_g (lw_at lw_m2 99 rfl) rfl
theorem q452 : (Jvm.Cond.instanceMethod ({ cls := "java/util/NoSuchElementException", name := "<init>", desc := "()V" } : Jvm.MethodName)) ∈ lw_all := lw_g (lw_at lw_m2 139 rfl) rfl
theorem q453 : (Jvm.Cond.code ({ cls := "java/util/NoSuchElementException", name := "<init>", desc := "()V" } : Jvm.MethodName) prog_76_method_1_code (1 : Nat) (Option.none : Option Jvm.ClassFile.FieldType)) ∈ lw_all := lw_g (lw_at lw_m2 140 rfl) rfl
theorem q454 : (Jvm.Cond.methodLink "java/util/NoSuchElementException" (1 : Nat) ({ cls := "java/lang/RuntimeException", name := "<init>", desc := "()V" } : Jvm.MethodName)) ∈ lw_all := lw_g (lw_at lw_m2 141 rfl) rfl
theorem q3512 : (Jvm.Cond.castable "java/util/NoSuchElementException" "java/lang/Object") ∈ lw_tbl := lw_at lw_m15 79 rfl
/-! java/util/Objects -/
def RJ17 : String := "java/util/Objects"
abbrev cJ17_checkIndex : ByteArray := prog_77_method_17_code
def yJ17_checkIndex : MethodName := ⟨RJ17, "checkIndex", "(II)I"⟩
def dkwJ17_checkIndex_0 : List UInt8 := [26, 27, 1, 184, 0, 105, 172]
abbrev dktJ17_checkIndex_0 : List UInt8 := dkwJ17_checkIndex_0 ++ []
theorem dksJ17_checkIndex_0 : cJ17_checkIndex.data.toList.drop 0 = dktJ17_checkIndex_0 := by decide +kernel
theorem dJ17_checkIndex_0 : decode cJ17_checkIndex 0 = .ok (.iload_n 0, 1) := dk_26 (dk_at dksJ17_checkIndex_0 0 rfl rfl)
theorem dJ17_checkIndex_1 : decode cJ17_checkIndex 1 = .ok (.iload_n 1, 1) := dk_27 (dk_at dksJ17_checkIndex_0 1 rfl rfl)
theorem dJ17_checkIndex_2 : decode cJ17_checkIndex 2 = .ok (.aconst_null, 1) := dk_1 (dk_at dksJ17_checkIndex_0 2 rfl rfl)
theorem dJ17_checkIndex_3 : decode cJ17_checkIndex 3 = .ok (.invokestatic 105, 3) := dk_184 0 105 (dk_at dksJ17_checkIndex_0 3 rfl rfl)
theorem dJ17_checkIndex_6 : decode cJ17_checkIndex 6 = .ok (.ireturn, 1) := dk_172 (dk_at dksJ17_checkIndex_0 6 rfl rfl)
abbrev cJ17_requireNonNull : ByteArray := prog_77_method_10_code
def yJ17_requireNonNull : MethodName := ⟨RJ17, "requireNonNull", "(Ljava/lang/Object;)Ljava/lang/Object;"⟩
def dkwJ17_requireNonNull_0 : List UInt8 := [42, 199, 0, 11, 187, 0, 84, 89, 183, 0, 86, 191, 42, 176]
abbrev dktJ17_requireNonNull_0 : List UInt8 := dkwJ17_requireNonNull_0 ++ []
theorem dksJ17_requireNonNull_0 : cJ17_requireNonNull.data.toList.drop 0 = dktJ17_requireNonNull_0 := by decide +kernel
theorem dJ17_requireNonNull_0 : decode cJ17_requireNonNull 0 = .ok (.aload_n 0, 1) := dk_42 (dk_at dksJ17_requireNonNull_0 0 rfl rfl)
theorem dJ17_requireNonNull_1 : decode cJ17_requireNonNull 1 = .ok (.ifnonnull 11, 3) := dk_199 0 11 (dk_at dksJ17_requireNonNull_0 1 rfl rfl)
theorem dJ17_requireNonNull_4 : decode cJ17_requireNonNull 4 = .ok (.new 84, 3) := dk_187 0 84 (dk_at dksJ17_requireNonNull_0 4 rfl rfl)
theorem dJ17_requireNonNull_7 : decode cJ17_requireNonNull 7 = .ok (.dup, 1) := dk_89 (dk_at dksJ17_requireNonNull_0 7 rfl rfl)
theorem dJ17_requireNonNull_8 : decode cJ17_requireNonNull 8 = .ok (.invokespecial 86, 3) := dk_183 0 86 (dk_at dksJ17_requireNonNull_0 8 rfl rfl)
theorem dJ17_requireNonNull_11 : decode cJ17_requireNonNull 11 = .ok (.athrow, 1) := dk_191 (dk_at dksJ17_requireNonNull_0 11 rfl rfl)
theorem dJ17_requireNonNull_12 : decode cJ17_requireNonNull 12 = .ok (.aload_n 0, 1) := dk_42 (dk_at dksJ17_requireNonNull_0 12 rfl rfl)
theorem dJ17_requireNonNull_13 : decode cJ17_requireNonNull 13 = .ok (.areturn, 1) := dk_176 (dk_at dksJ17_requireNonNull_0 13 rfl rfl)
abbrev cJ17_equals : ByteArray := prog_77_method_2_code
def yJ17_equals : MethodName := ⟨RJ17, "equals", "(Ljava/lang/Object;Ljava/lang/Object;)Z"⟩
def dkwJ17_equals_0 : List UInt8 := [42, 43, 165, 0, 15, 42, 198, 0, 15, 42, 43, 182, 0, 14, 153, 0, 7, 4, 167, 0, 4, 3, 172]
abbrev dktJ17_equals_0 : List UInt8 := dkwJ17_equals_0 ++ []
theorem dksJ17_equals_0 : cJ17_equals.data.toList.drop 0 = dktJ17_equals_0 := by decide +kernel
theorem dJ17_equals_0 : decode cJ17_equals 0 = .ok (.aload_n 0, 1) := dk_42 (dk_at dksJ17_equals_0 0 rfl rfl)
theorem dJ17_equals_1 : decode cJ17_equals 1 = .ok (.aload_n 1, 1) := dk_43 (dk_at dksJ17_equals_0 1 rfl rfl)
theorem dJ17_equals_2 : decode cJ17_equals 2 = .ok (.if_acmp .eq 15, 3) := dk_165 0 15 (dk_at dksJ17_equals_0 2 rfl rfl)
theorem dJ17_equals_5 : decode cJ17_equals 5 = .ok (.aload_n 0, 1) := dk_42 (dk_at dksJ17_equals_0 5 rfl rfl)
theorem dJ17_equals_6 : decode cJ17_equals 6 = .ok (.ifnull 15, 3) := dk_198 0 15 (dk_at dksJ17_equals_0 6 rfl rfl)
theorem dJ17_equals_9 : decode cJ17_equals 9 = .ok (.aload_n 0, 1) := dk_42 (dk_at dksJ17_equals_0 9 rfl rfl)
theorem dJ17_equals_10 : decode cJ17_equals 10 = .ok (.aload_n 1, 1) := dk_43 (dk_at dksJ17_equals_0 10 rfl rfl)
theorem dJ17_equals_11 : decode cJ17_equals 11 = .ok (.invokevirtual 14, 3) := dk_182 0 14 (dk_at dksJ17_equals_0 11 rfl rfl)
theorem dJ17_equals_14 : decode cJ17_equals 14 = .ok (.ifCond .eq 7, 3) := dk_153 0 7 (dk_at dksJ17_equals_0 14 rfl rfl)
theorem dJ17_equals_17 : decode cJ17_equals 17 = .ok (.iconst 1, 1) := dk_4 (dk_at dksJ17_equals_0 17 rfl rfl)
theorem dJ17_equals_18 : decode cJ17_equals 18 = .ok (.goto 4, 3) := dk_167 0 4 (dk_at dksJ17_equals_0 18 rfl rfl)
theorem dJ17_equals_21 : decode cJ17_equals 21 = .ok (.iconst 0, 1) := dk_3 (dk_at dksJ17_equals_0 21 rfl rfl)
theorem dJ17_equals_22 : decode cJ17_equals 22 = .ok (.ireturn, 1) := dk_172 (dk_at dksJ17_equals_0 22 rfl rfl)
theorem q99 : (Jvm.Cond.initialized "java/util/Objects") ∈ lw_all := lw_g (lw_at lw_m1 26 rfl) rfl
theorem q507 : (Jvm.Cond.static ({ cls := "java/util/Objects", name := "checkIndex", desc := "(II)I" } : Jvm.MethodName)) ∈ lw_all := lw_g (lw_at lw_m2 194 rfl) rfl
theorem q508 : (Jvm.Cond.code ({ cls := "java/util/Objects", name := "checkIndex", desc := "(II)I" } : Jvm.MethodName) prog_77_method_17_code (2 : Nat) (Option.some Jvm.ClassFile.FieldType.int)) ∈ lw_all := lw_g (lw_at lw_m2 195 rfl) rfl
theorem q509 : (Jvm.Cond.methodLink "java/util/Objects" (105 : Nat) ({ cls := "jdk/internal/util/Preconditions", name := "checkIndex", desc := "(IILjava/util/function/BiFunction;)I" } : Jvm.MethodName)) ∈ lw_all := lw_g (lw_at lw_m2 196 rfl) rfl
theorem q2725 : (Jvm.Cond.static ({ cls := "java/util/Objects", name := "requireNonNull", desc := "(Ljava/lang/Object;)Ljava/lang/Object;" } : Jvm.MethodName)) ∈ lw_all := lw_g (lw_at lw_m12 12 rfl) rfl
theorem q2726 : (Jvm.Cond.code ({ cls := "java/util/Objects", name := "requireNonNull", desc := "(Ljava/lang/Object;)Ljava/lang/Object;" } : Jvm.MethodName) prog_77_method_10_code (1 : Nat) (Option.some (Jvm.ClassFile.FieldType.object "java/lang/Object"))) ∈ lw_all := lw_g (lw_at lw_m12 13 rfl) rfl
theorem q2793 : (Jvm.Cond.static ({ cls := "java/util/Objects", name := "equals", desc := "(Ljava/lang/Object;Ljava/lang/Object;)Z" } : Jvm.MethodName)) ∈ lw_all := lw_g (lw_at lw_m12 80 rfl) rfl
theorem q2794 : (Jvm.Cond.code ({ cls := "java/util/Objects", name := "equals", desc := "(Ljava/lang/Object;Ljava/lang/Object;)Z" } : Jvm.MethodName) prog_77_method_2_code (2 : Nat) (Option.some Jvm.ClassFile.FieldType.boolean)) ∈ lw_all := lw_g (lw_at lw_m12 81 rfl) rfl
theorem q2795 : (Jvm.Cond.methodLink "java/util/Objects" (14 : Nat) ({ cls := "java/lang/Object", name := "equals", desc := "(Ljava/lang/Object;)Z" } : Jvm.MethodName)) ∈ lw_all := lw_g (lw_at lw_m12 82 rfl) rfl
/-! jdk/internal/util/Preconditions -/
def RJ18 : String := "jdk/internal/util/Preconditions"
abbrev cJ18_checkIndex : ByteArray := prog_85_method_11_code
def yJ18_checkIndex : MethodName := ⟨RJ18, "checkIndex", "(IILjava/util/function/BiFunction;)I"⟩
def dkwJ18_checkIndex_0 : List UInt8 := [26, 155, 0, 8, 26, 27, 161, 0, 10, 44, 26, 27, 184, 0, 95, 191, 26, 172]
abbrev dktJ18_checkIndex_0 : List UInt8 := dkwJ18_checkIndex_0 ++ []
theorem dksJ18_checkIndex_0 : cJ18_checkIndex.data.toList.drop 0 = dktJ18_checkIndex_0 := by decide +kernel
theorem dJ18_checkIndex_0 : decode cJ18_checkIndex 0 = .ok (.iload_n 0, 1) := dk_26 (dk_at dksJ18_checkIndex_0 0 rfl rfl)
theorem dJ18_checkIndex_1 : decode cJ18_checkIndex 1 = .ok (.ifCond .lt 8, 3) := dk_155 0 8 (dk_at dksJ18_checkIndex_0 1 rfl rfl)
theorem dJ18_checkIndex_4 : decode cJ18_checkIndex 4 = .ok (.iload_n 0, 1) := dk_26 (dk_at dksJ18_checkIndex_0 4 rfl rfl)
theorem dJ18_checkIndex_5 : decode cJ18_checkIndex 5 = .ok (.iload_n 1, 1) := dk_27 (dk_at dksJ18_checkIndex_0 5 rfl rfl)
theorem dJ18_checkIndex_6 : decode cJ18_checkIndex 6 = .ok (.if_icmp .lt 10, 3) := dk_161 0 10 (dk_at dksJ18_checkIndex_0 6 rfl rfl)
theorem dJ18_checkIndex_9 : decode cJ18_checkIndex 9 = .ok (.aload_n 2, 1) := dk_44 (dk_at dksJ18_checkIndex_0 9 rfl rfl)
theorem dJ18_checkIndex_10 : decode cJ18_checkIndex 10 = .ok (.iload_n 0, 1) := dk_26 (dk_at dksJ18_checkIndex_0 10 rfl rfl)
theorem dJ18_checkIndex_11 : decode cJ18_checkIndex 11 = .ok (.iload_n 1, 1) := dk_27 (dk_at dksJ18_checkIndex_0 11 rfl rfl)
theorem dJ18_checkIndex_12 : decode cJ18_checkIndex 12 = .ok (.invokestatic 95, 3) := dk_184 0 95 (dk_at dksJ18_checkIndex_0 12 rfl rfl)
theorem dJ18_checkIndex_15 : decode cJ18_checkIndex 15 = .ok (.athrow, 1) := dk_191 (dk_at dksJ18_checkIndex_0 15 rfl rfl)
theorem dJ18_checkIndex_16 : decode cJ18_checkIndex 16 = .ok (.iload_n 0, 1) := dk_26 (dk_at dksJ18_checkIndex_0 16 rfl rfl)
theorem dJ18_checkIndex_17 : decode cJ18_checkIndex 17 = .ok (.ireturn, 1) := dk_172 (dk_at dksJ18_checkIndex_0 17 rfl rfl)
theorem q100 : (Jvm.Cond.initialized "jdk/internal/util/Preconditions") ∈ lw_all := lw_g (lw_at lw_m1 27 rfl) rfl
theorem q510 : (Jvm.Cond.static ({ cls := "jdk/internal/util/Preconditions", name := "checkIndex", desc := "(IILjava/util/function/BiFunction;)I" } : Jvm.MethodName)) ∈ lw_all := lw_g (lw_at lw_m2 197 rfl) rfl
theorem q511 : (Jvm.Cond.code ({ cls := "jdk/internal/util/Preconditions", name := "checkIndex", desc := "(IILjava/util/function/BiFunction;)I" } : Jvm.MethodName) prog_85_method_11_code (3 : Nat) (Option.some Jvm.ClassFile.FieldType.int)) ∈ lw_all := lw_g (lw_at lw_m2 198 rfl) rfl
/-! java/util/ImmutableCollections -/
def RJ19 : String := "java/util/ImmutableCollections"
abbrev cJ19_listFromTrustedArray : ByteArray := prog_64_method_5_code
def yJ19_listFromTrustedArray : MethodName := ⟨RJ19, "listFromTrustedArray", "([Ljava/lang/Object;)Ljava/util/List;"⟩
def dkwJ19_listFromTrustedArray_5 : List UInt8 := [3, 50, 42, 4, 50, 183, 0, 67, 167, 0, 12, 187, 0, 12, 89, 42, 3, 183, 0, 43, 176]
abbrev dktJ19_listFromTrustedArray_5 : List UInt8 := dkwJ19_listFromTrustedArray_5 ++ []
def dkwJ19_listFromTrustedArray_4 : List UInt8 := [178, 0, 60, 167, 0, 41, 187, 0, 10, 89, 42, 3, 50, 183, 0, 64, 167, 0, 28, 187, 0, 10, 89, 42]
abbrev dktJ19_listFromTrustedArray_4 : List UInt8 := dkwJ19_listFromTrustedArray_4 ++ dktJ19_listFromTrustedArray_5
def dkwJ19_listFromTrustedArray_3 : List UInt8 := [170, 0, 0, 0, 0, 61, 0, 0, 0, 0, 0, 0, 0, 2, 0, 0, 0, 26, 0, 0, 0, 32, 0, 0, 0, 45]
abbrev dktJ19_listFromTrustedArray_3 : List UInt8 := dkwJ19_listFromTrustedArray_3 ++ dktJ19_listFromTrustedArray_4
def dkwJ19_listFromTrustedArray_2 : List UInt8 := [132, 3, 1, 167, 255, 237, 42, 190]
abbrev dktJ19_listFromTrustedArray_2 : List UInt8 := dkwJ19_listFromTrustedArray_2 ++ dktJ19_listFromTrustedArray_3
def dkwJ19_listFromTrustedArray_1 : List UInt8 := [76, 43, 190, 61, 3, 62, 29, 28, 162, 0, 20, 43, 29, 50, 58, 4, 25, 4, 184, 0, 37, 87]
abbrev dktJ19_listFromTrustedArray_1 : List UInt8 := dkwJ19_listFromTrustedArray_1 ++ dktJ19_listFromTrustedArray_2
def dkwJ19_listFromTrustedArray_0 : List UInt8 := [178, 0, 46, 154, 0, 20, 42, 182, 0, 51, 18, 55, 165, 0, 11, 187, 0, 57, 89, 183, 0, 59, 191, 42]
abbrev dktJ19_listFromTrustedArray_0 : List UInt8 := dkwJ19_listFromTrustedArray_0 ++ dktJ19_listFromTrustedArray_1
theorem dksJ19_listFromTrustedArray_0 : cJ19_listFromTrustedArray.data.toList.drop 0 = dktJ19_listFromTrustedArray_0 := by decide +kernel
theorem dksJ19_listFromTrustedArray_1 : cJ19_listFromTrustedArray.data.toList.drop 24 = dktJ19_listFromTrustedArray_1 := dk_seg dksJ19_listFromTrustedArray_0 24 rfl rfl
theorem dksJ19_listFromTrustedArray_2 : cJ19_listFromTrustedArray.data.toList.drop 46 = dktJ19_listFromTrustedArray_2 := dk_seg dksJ19_listFromTrustedArray_1 22 rfl rfl
theorem dksJ19_listFromTrustedArray_3 : cJ19_listFromTrustedArray.data.toList.drop 54 = dktJ19_listFromTrustedArray_3 := dk_seg dksJ19_listFromTrustedArray_2 8 rfl rfl
theorem dksJ19_listFromTrustedArray_4 : cJ19_listFromTrustedArray.data.toList.drop 80 = dktJ19_listFromTrustedArray_4 := dk_seg dksJ19_listFromTrustedArray_3 26 rfl rfl
theorem dksJ19_listFromTrustedArray_5 : cJ19_listFromTrustedArray.data.toList.drop 104 = dktJ19_listFromTrustedArray_5 := dk_seg dksJ19_listFromTrustedArray_4 24 rfl rfl
theorem dJ19_listFromTrustedArray_0 : decode cJ19_listFromTrustedArray 0 = .ok (.getstatic 46, 3) := dk_178 0 46 (dk_at dksJ19_listFromTrustedArray_0 0 rfl rfl)
theorem dJ19_listFromTrustedArray_3 : decode cJ19_listFromTrustedArray 3 = .ok (.ifCond .ne 20, 3) := dk_154 0 20 (dk_at dksJ19_listFromTrustedArray_0 3 rfl rfl)
theorem dJ19_listFromTrustedArray_6 : decode cJ19_listFromTrustedArray 6 = .ok (.aload_n 0, 1) := dk_42 (dk_at dksJ19_listFromTrustedArray_0 6 rfl rfl)
theorem dJ19_listFromTrustedArray_7 : decode cJ19_listFromTrustedArray 7 = .ok (.invokevirtual 51, 3) := dk_182 0 51 (dk_at dksJ19_listFromTrustedArray_0 7 rfl rfl)
theorem dJ19_listFromTrustedArray_10 : decode cJ19_listFromTrustedArray 10 = .ok (.ldc 55, 2) := dk_18 55 (dk_at dksJ19_listFromTrustedArray_0 10 rfl rfl)
theorem dJ19_listFromTrustedArray_12 : decode cJ19_listFromTrustedArray 12 = .ok (.if_acmp .eq 11, 3) := dk_165 0 11 (dk_at dksJ19_listFromTrustedArray_0 12 rfl rfl)
theorem dJ19_listFromTrustedArray_15 : decode cJ19_listFromTrustedArray 15 = .ok (.new 57, 3) := dk_187 0 57 (dk_at dksJ19_listFromTrustedArray_0 15 rfl rfl)
theorem dJ19_listFromTrustedArray_18 : decode cJ19_listFromTrustedArray 18 = .ok (.dup, 1) := dk_89 (dk_at dksJ19_listFromTrustedArray_0 18 rfl rfl)
theorem dJ19_listFromTrustedArray_19 : decode cJ19_listFromTrustedArray 19 = .ok (.invokespecial 59, 3) := dk_183 0 59 (dk_at dksJ19_listFromTrustedArray_0 19 rfl rfl)
theorem dJ19_listFromTrustedArray_22 : decode cJ19_listFromTrustedArray 22 = .ok (.athrow, 1) := dk_191 (dk_at dksJ19_listFromTrustedArray_0 22 rfl rfl)
theorem dJ19_listFromTrustedArray_23 : decode cJ19_listFromTrustedArray 23 = .ok (.aload_n 0, 1) := dk_42 (dk_at dksJ19_listFromTrustedArray_0 23 rfl rfl)
theorem dJ19_listFromTrustedArray_24 : decode cJ19_listFromTrustedArray 24 = .ok (.astore_n 1, 1) := dk_76 (dk_at dksJ19_listFromTrustedArray_1 0 rfl rfl)
theorem dJ19_listFromTrustedArray_25 : decode cJ19_listFromTrustedArray 25 = .ok (.aload_n 1, 1) := dk_43 (dk_at dksJ19_listFromTrustedArray_1 1 rfl rfl)
theorem dJ19_listFromTrustedArray_26 : decode cJ19_listFromTrustedArray 26 = .ok (.arraylength, 1) := dk_190 (dk_at dksJ19_listFromTrustedArray_1 2 rfl rfl)
theorem dJ19_listFromTrustedArray_27 : decode cJ19_listFromTrustedArray 27 = .ok (.istore_n 2, 1) := dk_61 (dk_at dksJ19_listFromTrustedArray_1 3 rfl rfl)
theorem dJ19_listFromTrustedArray_28 : decode cJ19_listFromTrustedArray 28 = .ok (.iconst 0, 1) := dk_3 (dk_at dksJ19_listFromTrustedArray_1 4 rfl rfl)
theorem dJ19_listFromTrustedArray_29 : decode cJ19_listFromTrustedArray 29 = .ok (.istore_n 3, 1) := dk_62 (dk_at dksJ19_listFromTrustedArray_1 5 rfl rfl)
theorem dJ19_listFromTrustedArray_30 : decode cJ19_listFromTrustedArray 30 = .ok (.iload_n 3, 1) := dk_29 (dk_at dksJ19_listFromTrustedArray_1 6 rfl rfl)
theorem dJ19_listFromTrustedArray_31 : decode cJ19_listFromTrustedArray 31 = .ok (.iload_n 2, 1) := dk_28 (dk_at dksJ19_listFromTrustedArray_1 7 rfl rfl)
theorem dJ19_listFromTrustedArray_32 : decode cJ19_listFromTrustedArray 32 = .ok (.if_icmp .ge 20, 3) := dk_162 0 20 (dk_at dksJ19_listFromTrustedArray_1 8 rfl rfl)
theorem dJ19_listFromTrustedArray_35 : decode cJ19_listFromTrustedArray 35 = .ok (.aload_n 1, 1) := dk_43 (dk_at dksJ19_listFromTrustedArray_1 11 rfl rfl)
theorem dJ19_listFromTrustedArray_36 : decode cJ19_listFromTrustedArray 36 = .ok (.iload_n 3, 1) := dk_29 (dk_at dksJ19_listFromTrustedArray_1 12 rfl rfl)
theorem dJ19_listFromTrustedArray_37 : decode cJ19_listFromTrustedArray 37 = .ok (.aaload, 1) := dk_50 (dk_at dksJ19_listFromTrustedArray_1 13 rfl rfl)
theorem dJ19_listFromTrustedArray_38 : decode cJ19_listFromTrustedArray 38 = .ok (.astore 4, 2) := dk_58 4 (dk_at dksJ19_listFromTrustedArray_1 14 rfl rfl)
theorem dJ19_listFromTrustedArray_40 : decode cJ19_listFromTrustedArray 40 = .ok (.aload 4, 2) := dk_25 4 (dk_at dksJ19_listFromTrustedArray_1 16 rfl rfl)
theorem dJ19_listFromTrustedArray_42 : decode cJ19_listFromTrustedArray 42 = .ok (.invokestatic 37, 3) := dk_184 0 37 (dk_at dksJ19_listFromTrustedArray_1 18 rfl rfl)
theorem dJ19_listFromTrustedArray_45 : decode cJ19_listFromTrustedArray 45 = .ok (.pop, 1) := dk_87 (dk_at dksJ19_listFromTrustedArray_1 21 rfl rfl)
theorem dJ19_listFromTrustedArray_46 : decode cJ19_listFromTrustedArray 46 = .ok (.iinc 3 1, 3) := dk_132 3 1 (dk_at dksJ19_listFromTrustedArray_2 0 rfl rfl)
theorem dJ19_listFromTrustedArray_49 : decode cJ19_listFromTrustedArray 49 = .ok (.goto (-19), 3) := dk_167 255 237 (dk_at dksJ19_listFromTrustedArray_2 3 rfl rfl)
theorem dJ19_listFromTrustedArray_52 : decode cJ19_listFromTrustedArray 52 = .ok (.aload_n 0, 1) := dk_42 (dk_at dksJ19_listFromTrustedArray_2 6 rfl rfl)
theorem dJ19_listFromTrustedArray_53 : decode cJ19_listFromTrustedArray 53 = .ok (.arraylength, 1) := dk_190 (dk_at dksJ19_listFromTrustedArray_2 7 rfl rfl)
theorem dJ19_listFromTrustedArray_54 : decode cJ19_listFromTrustedArray 54 = .ok (.tableswitch 61 0 2 #[26, 32, 45], 26) := by decide +kernel
theorem dJ19_listFromTrustedArray_80 : decode cJ19_listFromTrustedArray 80 = .ok (.getstatic 60, 3) := dk_178 0 60 (dk_at dksJ19_listFromTrustedArray_4 0 rfl rfl)
theorem dJ19_listFromTrustedArray_83 : decode cJ19_listFromTrustedArray 83 = .ok (.goto 41, 3) := dk_167 0 41 (dk_at dksJ19_listFromTrustedArray_4 3 rfl rfl)
theorem dJ19_listFromTrustedArray_86 : decode cJ19_listFromTrustedArray 86 = .ok (.new 10, 3) := dk_187 0 10 (dk_at dksJ19_listFromTrustedArray_4 6 rfl rfl)
theorem dJ19_listFromTrustedArray_89 : decode cJ19_listFromTrustedArray 89 = .ok (.dup, 1) := dk_89 (dk_at dksJ19_listFromTrustedArray_4 9 rfl rfl)
theorem dJ19_listFromTrustedArray_90 : decode cJ19_listFromTrustedArray 90 = .ok (.aload_n 0, 1) := dk_42 (dk_at dksJ19_listFromTrustedArray_4 10 rfl rfl)
theorem dJ19_listFromTrustedArray_91 : decode cJ19_listFromTrustedArray 91 = .ok (.iconst 0, 1) := dk_3 (dk_at dksJ19_listFromTrustedArray_4 11 rfl rfl)
theorem dJ19_listFromTrustedArray_92 : decode cJ19_listFromTrustedArray 92 = .ok (.aaload, 1) := dk_50 (dk_at dksJ19_listFromTrustedArray_4 12 rfl rfl)
theorem dJ19_listFromTrustedArray_93 : decode cJ19_listFromTrustedArray 93 = .ok (.invokespecial 64, 3) := dk_183 0 64 (dk_at dksJ19_listFromTrustedArray_4 13 rfl rfl)
theorem dJ19_listFromTrustedArray_96 : decode cJ19_listFromTrustedArray 96 = .ok (.goto 28, 3) := dk_167 0 28 (dk_at dksJ19_listFromTrustedArray_4 16 rfl rfl)
theorem dJ19_listFromTrustedArray_99 : decode cJ19_listFromTrustedArray 99 = .ok (.new 10, 3) := dk_187 0 10 (dk_at dksJ19_listFromTrustedArray_4 19 rfl rfl)
theorem dJ19_listFromTrustedArray_102 : decode cJ19_listFromTrustedArray 102 = .ok (.dup, 1) := dk_89 (dk_at dksJ19_listFromTrustedArray_4 22 rfl rfl)
theorem dJ19_listFromTrustedArray_103 : decode cJ19_listFromTrustedArray 103 = .ok (.aload_n 0, 1) := dk_42 (dk_at dksJ19_listFromTrustedArray_4 23 rfl rfl)
theorem dJ19_listFromTrustedArray_104 : decode cJ19_listFromTrustedArray 104 = .ok (.iconst 0, 1) := dk_3 (dk_at dksJ19_listFromTrustedArray_5 0 rfl rfl)
theorem dJ19_listFromTrustedArray_105 : decode cJ19_listFromTrustedArray 105 = .ok (.aaload, 1) := dk_50 (dk_at dksJ19_listFromTrustedArray_5 1 rfl rfl)
theorem dJ19_listFromTrustedArray_106 : decode cJ19_listFromTrustedArray 106 = .ok (.aload_n 0, 1) := dk_42 (dk_at dksJ19_listFromTrustedArray_5 2 rfl rfl)
theorem dJ19_listFromTrustedArray_107 : decode cJ19_listFromTrustedArray 107 = .ok (.iconst 1, 1) := dk_4 (dk_at dksJ19_listFromTrustedArray_5 3 rfl rfl)
theorem dJ19_listFromTrustedArray_108 : decode cJ19_listFromTrustedArray 108 = .ok (.aaload, 1) := dk_50 (dk_at dksJ19_listFromTrustedArray_5 4 rfl rfl)
theorem dJ19_listFromTrustedArray_109 : decode cJ19_listFromTrustedArray 109 = .ok (.invokespecial 67, 3) := dk_183 0 67 (dk_at dksJ19_listFromTrustedArray_5 5 rfl rfl)
theorem dJ19_listFromTrustedArray_112 : decode cJ19_listFromTrustedArray 112 = .ok (.goto 12, 3) := dk_167 0 12 (dk_at dksJ19_listFromTrustedArray_5 8 rfl rfl)
theorem dJ19_listFromTrustedArray_115 : decode cJ19_listFromTrustedArray 115 = .ok (.new 12, 3) := dk_187 0 12 (dk_at dksJ19_listFromTrustedArray_5 11 rfl rfl)
theorem dJ19_listFromTrustedArray_118 : decode cJ19_listFromTrustedArray 118 = .ok (.dup, 1) := dk_89 (dk_at dksJ19_listFromTrustedArray_5 14 rfl rfl)
theorem dJ19_listFromTrustedArray_119 : decode cJ19_listFromTrustedArray 119 = .ok (.aload_n 0, 1) := dk_42 (dk_at dksJ19_listFromTrustedArray_5 15 rfl rfl)
theorem dJ19_listFromTrustedArray_120 : decode cJ19_listFromTrustedArray 120 = .ok (.iconst 0, 1) := dk_3 (dk_at dksJ19_listFromTrustedArray_5 16 rfl rfl)
theorem dJ19_listFromTrustedArray_121 : decode cJ19_listFromTrustedArray 121 = .ok (.invokespecial 43, 3) := dk_183 0 43 (dk_at dksJ19_listFromTrustedArray_5 17 rfl rfl)
theorem dJ19_listFromTrustedArray_124 : decode cJ19_listFromTrustedArray 124 = .ok (.areturn, 1) := dk_176 (dk_at dksJ19_listFromTrustedArray_5 20 rfl rfl)
theorem q101 : (Jvm.Cond.initialized "java/util/ImmutableCollections") ∈ lw_all := lw_g (lw_at lw_m1 28 rfl) rfl
theorem q2718 : (Jvm.Cond.static ({ cls := "java/util/ImmutableCollections", name := "listFromTrustedArray", desc := "([Ljava/lang/Object;)Ljava/util/List;" } : Jvm.MethodName)) ∈ lw_all := lw_g (lw_at lw_m12 5 rfl) rfl
theorem q2719 : (Jvm.Cond.code ({ cls := "java/util/ImmutableCollections", name := "listFromTrustedArray", desc := "([Ljava/lang/Object;)Ljava/util/List;" } : Jvm.MethodName) prog_64_method_5_code (5 : Nat) (Option.some (Jvm.ClassFile.FieldType.object "java/util/List"))) ∈ lw_all := lw_g (lw_at lw_m12 6 rfl) rfl
theorem q2720 : (Jvm.Cond.fieldLink "java/util/ImmutableCollections" (46 : Nat) "java/util/ImmutableCollections" "$assertionsDisabled" "Z") ∈ lw_all := lw_g (lw_at lw_m12 7 rfl) rfl
theorem q2724 : (Jvm.Cond.methodLink "java/util/ImmutableCollections" (37 : Nat) ({ cls := "java/util/Objects", name := "requireNonNull", desc := "(Ljava/lang/Object;)Ljava/lang/Object;" } : Jvm.MethodName)) ∈ lw_all := lw_g (lw_at lw_m12 11 rfl) rfl
theorem q2752 : (Jvm.Cond.classLink "java/util/ImmutableCollections" (12 : Nat) "java/util/ImmutableCollections$ListN") ∈ lw_all := lw_g (lw_at lw_m12 39 rfl) rfl
theorem q2754 : (Jvm.Cond.methodLinkNest "java/util/ImmutableCollections" (43 : Nat) ({ cls := "java/util/ImmutableCollections$ListN", name := "<init>", desc := "([Ljava/lang/Object;Z)V" } : Jvm.MethodName) "java/util/ImmutableCollections") ∈ lw_tbl := lw_at lw_m12 41 rfl
/-! java/lang/IndexOutOfBoundsException -/
def RJ20 : String := "java/lang/IndexOutOfBoundsException"
abbrev cJ20_init_2 : ByteArray := prog_30_method_1_code
def yJ20_init_2 : MethodName := ⟨RJ20, "<init>", "()V"⟩
theorem dJ20_init_2_0 : decode cJ20_init_2 0 = .ok (.aload_n 0, 1) := by decide +kernel
theorem dJ20_init_2_1 : decode cJ20_init_2 1 = .ok (.invokespecial 1, 3) := by decide +kernel
theorem dJ20_init_2_4 : decode cJ20_init_2 4 = .ok (.return_, 1) := by decide +kernel
theorem q102 : (Jvm.Cond.initialized "java/lang/IndexOutOfBoundsException") ∈ lw_all := lw_g (lw_at lw_m1 29 rfl) rfl
theorem q531 : (Jvm.Cond.instantiable "java/lang/IndexOutOfBoundsException" (6 : Nat)) ∈ lw_all := lw_g (lw_at lw_m2 218 rfl) rfl
theorem q1819 : (Jvm.Cond.instanceMethod ({ cls := "java/lang/IndexOutOfBoundsException", name := "<init>", desc := "()V" } : Jvm.MethodName)) ∈ lw_all := lw_g (lw_at lw_m8 66 rfl) rfl
theorem q1820 : (Jvm.Cond.code ({ cls := "java/lang/IndexOutOfBoundsException", name := "<init>", desc := "()V" } : Jvm.MethodName) prog_30_method_1_code (1 : Nat) (Option.none : Option Jvm.ClassFile.FieldType)) ∈ lw_all := lw_g (lw_at lw_m8 67 rfl) rfl
theorem q1821 : (Jvm.Cond.methodLink "java/lang/IndexOutOfBoundsException" (1 : Nat) ({ cls := "java/lang/RuntimeException", name := "<init>", desc := "()V" } : Jvm.MethodName)) ∈ lw_all := lw_g (lw_at lw_m8 68 rfl) rfl
theorem q3521 : (Jvm.Cond.castable "java/lang/IndexOutOfBoundsException" "java/lang/Object") ∈ lw_tbl := lw_at lw_m15 88 rfl
/-! java/lang/StringLatin1 -/
def RJ21 : String := "java/lang/StringLatin1"
abbrev cJ21_inflate : ByteArray := prog_42_method_50_code
def yJ21_inflate : MethodName := ⟨RJ21, "inflate", "([BI[BII)V"⟩
def dkwJ21_inflate_0 : List UInt8 := [42, 27, 44, 29, 21, 4, 184, 0, 240, 177]
abbrev dktJ21_inflate_0 : List UInt8 := dkwJ21_inflate_0 ++ []
theorem dksJ21_inflate_0 : cJ21_inflate.data.toList.drop 0 = dktJ21_inflate_0 := by decide +kernel
theorem dJ21_inflate_0 : decode cJ21_inflate 0 = .ok (.aload_n 0, 1) := dk_42 (dk_at dksJ21_inflate_0 0 rfl rfl)
theorem dJ21_inflate_1 : decode cJ21_inflate 1 = .ok (.iload_n 1, 1) := dk_27 (dk_at dksJ21_inflate_0 1 rfl rfl)
theorem dJ21_inflate_2 : decode cJ21_inflate 2 = .ok (.aload_n 2, 1) := dk_44 (dk_at dksJ21_inflate_0 2 rfl rfl)
theorem dJ21_inflate_3 : decode cJ21_inflate 3 = .ok (.iload_n 3, 1) := dk_29 (dk_at dksJ21_inflate_0 3 rfl rfl)
theorem dJ21_inflate_4 : decode cJ21_inflate 4 = .ok (.iload 4, 2) := dk_21 4 (dk_at dksJ21_inflate_0 4 rfl rfl)
theorem dJ21_inflate_6 : decode cJ21_inflate 6 = .ok (.invokestatic 240, 3) := dk_184 0 240 (dk_at dksJ21_inflate_0 6 rfl rfl)
theorem dJ21_inflate_9 : decode cJ21_inflate 9 = .ok (.return_, 1) := dk_177 (dk_at dksJ21_inflate_0 9 rfl rfl)
abbrev cJ21_hashCode : ByteArray := prog_42_method_21_code
def yJ21_hashCode : MethodName := ⟨RJ21, "hashCode", "([B)I"⟩
def dkwJ21_hashCode_2 : List UInt8 := [3, 167, 0, 22, 42, 3, 51, 17, 0, 255, 126, 167, 0, 12, 42, 3, 42, 190, 3, 7, 184, 0, 84, 172]
abbrev dktJ21_hashCode_2 : List UInt8 := dkwJ21_hashCode_2 ++ []
def dkwJ21_hashCode_1 : List UInt8 := [171, 0, 0, 0, 0, 40, 0, 0, 0, 2, 0, 0, 0, 0, 0, 0, 0, 26, 0, 0, 0, 1, 0, 0, 0, 30]
abbrev dktJ21_hashCode_1 : List UInt8 := dkwJ21_hashCode_1 ++ dktJ21_hashCode_2
def dkwJ21_hashCode_0 : List UInt8 := [42, 190]
abbrev dktJ21_hashCode_0 : List UInt8 := dkwJ21_hashCode_0 ++ dktJ21_hashCode_1
theorem dksJ21_hashCode_0 : cJ21_hashCode.data.toList.drop 0 = dktJ21_hashCode_0 := by decide +kernel
theorem dksJ21_hashCode_1 : cJ21_hashCode.data.toList.drop 2 = dktJ21_hashCode_1 := dk_seg dksJ21_hashCode_0 2 rfl rfl
theorem dksJ21_hashCode_2 : cJ21_hashCode.data.toList.drop 28 = dktJ21_hashCode_2 := dk_seg dksJ21_hashCode_1 26 rfl rfl
theorem dJ21_hashCode_0 : decode cJ21_hashCode 0 = .ok (.aload_n 0, 1) := dk_42 (dk_at dksJ21_hashCode_0 0 rfl rfl)
theorem dJ21_hashCode_1 : decode cJ21_hashCode 1 = .ok (.arraylength, 1) := dk_190 (dk_at dksJ21_hashCode_0 1 rfl rfl)
theorem dJ21_hashCode_2 : decode cJ21_hashCode 2 = .ok (.lookupswitch 40 #[(0, 26), (1, 30)], 26) := by decide +kernel
theorem dJ21_hashCode_28 : decode cJ21_hashCode 28 = .ok (.iconst 0, 1) := dk_3 (dk_at dksJ21_hashCode_2 0 rfl rfl)
theorem dJ21_hashCode_29 : decode cJ21_hashCode 29 = .ok (.goto 22, 3) := dk_167 0 22 (dk_at dksJ21_hashCode_2 1 rfl rfl)
theorem dJ21_hashCode_32 : decode cJ21_hashCode 32 = .ok (.aload_n 0, 1) := dk_42 (dk_at dksJ21_hashCode_2 4 rfl rfl)
theorem dJ21_hashCode_33 : decode cJ21_hashCode 33 = .ok (.iconst 0, 1) := dk_3 (dk_at dksJ21_hashCode_2 5 rfl rfl)
theorem dJ21_hashCode_34 : decode cJ21_hashCode 34 = .ok (.baload, 1) := dk_51 (dk_at dksJ21_hashCode_2 6 rfl rfl)
theorem dJ21_hashCode_35 : decode cJ21_hashCode 35 = .ok (.sipush 255, 3) := dk_17 0 255 (dk_at dksJ21_hashCode_2 7 rfl rfl)
theorem dJ21_hashCode_38 : decode cJ21_hashCode 38 = .ok (.iand, 1) := dk_126 (dk_at dksJ21_hashCode_2 10 rfl rfl)
theorem dJ21_hashCode_39 : decode cJ21_hashCode 39 = .ok (.goto 12, 3) := dk_167 0 12 (dk_at dksJ21_hashCode_2 11 rfl rfl)
theorem dJ21_hashCode_42 : decode cJ21_hashCode 42 = .ok (.aload_n 0, 1) := dk_42 (dk_at dksJ21_hashCode_2 14 rfl rfl)
theorem dJ21_hashCode_43 : decode cJ21_hashCode 43 = .ok (.iconst 0, 1) := dk_3 (dk_at dksJ21_hashCode_2 15 rfl rfl)
theorem dJ21_hashCode_44 : decode cJ21_hashCode 44 = .ok (.aload_n 0, 1) := dk_42 (dk_at dksJ21_hashCode_2 16 rfl rfl)
theorem dJ21_hashCode_45 : decode cJ21_hashCode 45 = .ok (.arraylength, 1) := dk_190 (dk_at dksJ21_hashCode_2 17 rfl rfl)
theorem dJ21_hashCode_46 : decode cJ21_hashCode 46 = .ok (.iconst 0, 1) := dk_3 (dk_at dksJ21_hashCode_2 18 rfl rfl)
theorem dJ21_hashCode_47 : decode cJ21_hashCode 47 = .ok (.iconst 4, 1) := dk_7 (dk_at dksJ21_hashCode_2 19 rfl rfl)
theorem dJ21_hashCode_48 : decode cJ21_hashCode 48 = .ok (.invokestatic 84, 3) := dk_184 0 84 (dk_at dksJ21_hashCode_2 20 rfl rfl)
theorem dJ21_hashCode_51 : decode cJ21_hashCode 51 = .ok (.ireturn, 1) := dk_172 (dk_at dksJ21_hashCode_2 23 rfl rfl)
abbrev cJ21_equals : ByteArray := prog_42_method_13_code
def yJ21_equals : MethodName := ⟨RJ21, "equals", "([B[B)Z"⟩
def dkwJ21_equals_1 : List UInt8 := [3, 172, 132, 2, 1, 167, 255, 236, 4, 172, 3, 172]
abbrev dktJ21_equals_1 : List UInt8 := dkwJ21_equals_1 ++ []
def dkwJ21_equals_0 : List UInt8 := [42, 190, 43, 190, 160, 0, 30, 3, 61, 28, 42, 190, 162, 0, 20, 42, 28, 51, 43, 28, 51, 159, 0, 5]
abbrev dktJ21_equals_0 : List UInt8 := dkwJ21_equals_0 ++ dktJ21_equals_1
theorem dksJ21_equals_0 : cJ21_equals.data.toList.drop 0 = dktJ21_equals_0 := by decide +kernel
theorem dksJ21_equals_1 : cJ21_equals.data.toList.drop 24 = dktJ21_equals_1 := dk_seg dksJ21_equals_0 24 rfl rfl
theorem dJ21_equals_0 : decode cJ21_equals 0 = .ok (.aload_n 0, 1) := dk_42 (dk_at dksJ21_equals_0 0 rfl rfl)
theorem dJ21_equals_1 : decode cJ21_equals 1 = .ok (.arraylength, 1) := dk_190 (dk_at dksJ21_equals_0 1 rfl rfl)
theorem dJ21_equals_2 : decode cJ21_equals 2 = .ok (.aload_n 1, 1) := dk_43 (dk_at dksJ21_equals_0 2 rfl rfl)
theorem dJ21_equals_3 : decode cJ21_equals 3 = .ok (.arraylength, 1) := dk_190 (dk_at dksJ21_equals_0 3 rfl rfl)
theorem dJ21_equals_4 : decode cJ21_equals 4 = .ok (.if_icmp .ne 30, 3) := dk_160 0 30 (dk_at dksJ21_equals_0 4 rfl rfl)
theorem dJ21_equals_7 : decode cJ21_equals 7 = .ok (.iconst 0, 1) := dk_3 (dk_at dksJ21_equals_0 7 rfl rfl)
theorem dJ21_equals_8 : decode cJ21_equals 8 = .ok (.istore_n 2, 1) := dk_61 (dk_at dksJ21_equals_0 8 rfl rfl)
theorem dJ21_equals_9 : decode cJ21_equals 9 = .ok (.iload_n 2, 1) := dk_28 (dk_at dksJ21_equals_0 9 rfl rfl)
theorem dJ21_equals_10 : decode cJ21_equals 10 = .ok (.aload_n 0, 1) := dk_42 (dk_at dksJ21_equals_0 10 rfl rfl)
theorem dJ21_equals_11 : decode cJ21_equals 11 = .ok (.arraylength, 1) := dk_190 (dk_at dksJ21_equals_0 11 rfl rfl)
theorem dJ21_equals_12 : decode cJ21_equals 12 = .ok (.if_icmp .ge 20, 3) := dk_162 0 20 (dk_at dksJ21_equals_0 12 rfl rfl)
theorem dJ21_equals_15 : decode cJ21_equals 15 = .ok (.aload_n 0, 1) := dk_42 (dk_at dksJ21_equals_0 15 rfl rfl)
theorem dJ21_equals_16 : decode cJ21_equals 16 = .ok (.iload_n 2, 1) := dk_28 (dk_at dksJ21_equals_0 16 rfl rfl)
theorem dJ21_equals_17 : decode cJ21_equals 17 = .ok (.baload, 1) := dk_51 (dk_at dksJ21_equals_0 17 rfl rfl)
theorem dJ21_equals_18 : decode cJ21_equals 18 = .ok (.aload_n 1, 1) := dk_43 (dk_at dksJ21_equals_0 18 rfl rfl)
theorem dJ21_equals_19 : decode cJ21_equals 19 = .ok (.iload_n 2, 1) := dk_28 (dk_at dksJ21_equals_0 19 rfl rfl)
theorem dJ21_equals_20 : decode cJ21_equals 20 = .ok (.baload, 1) := dk_51 (dk_at dksJ21_equals_0 20 rfl rfl)
theorem dJ21_equals_21 : decode cJ21_equals 21 = .ok (.if_icmp .eq 5, 3) := dk_159 0 5 (dk_at dksJ21_equals_0 21 rfl rfl)
theorem dJ21_equals_24 : decode cJ21_equals 24 = .ok (.iconst 0, 1) := dk_3 (dk_at dksJ21_equals_1 0 rfl rfl)
theorem dJ21_equals_25 : decode cJ21_equals 25 = .ok (.ireturn, 1) := dk_172 (dk_at dksJ21_equals_1 1 rfl rfl)
theorem dJ21_equals_26 : decode cJ21_equals 26 = .ok (.iinc 2 1, 3) := dk_132 2 1 (dk_at dksJ21_equals_1 2 rfl rfl)
theorem dJ21_equals_29 : decode cJ21_equals 29 = .ok (.goto (-20), 3) := dk_167 255 236 (dk_at dksJ21_equals_1 5 rfl rfl)
theorem dJ21_equals_32 : decode cJ21_equals 32 = .ok (.iconst 1, 1) := dk_4 (dk_at dksJ21_equals_1 8 rfl rfl)
theorem dJ21_equals_33 : decode cJ21_equals 33 = .ok (.ireturn, 1) := dk_172 (dk_at dksJ21_equals_1 9 rfl rfl)
theorem dJ21_equals_34 : decode cJ21_equals 34 = .ok (.iconst 0, 1) := dk_3 (dk_at dksJ21_equals_1 10 rfl rfl)
theorem dJ21_equals_35 : decode cJ21_equals 35 = .ok (.ireturn, 1) := dk_172 (dk_at dksJ21_equals_1 11 rfl rfl)
abbrev cJ21_fillNull : ByteArray := prog_42_method_48_code
def yJ21_fillNull : MethodName := ⟨RJ21, "fillNull", "([BII)V"⟩
def dkwJ21_fillNull_0 : List UInt8 := [42, 27, 28, 3, 184, 0, 236, 177]
abbrev dktJ21_fillNull_0 : List UInt8 := dkwJ21_fillNull_0 ++ []
theorem dksJ21_fillNull_0 : cJ21_fillNull.data.toList.drop 0 = dktJ21_fillNull_0 := by decide +kernel
theorem dJ21_fillNull_0 : decode cJ21_fillNull 0 = .ok (.aload_n 0, 1) := dk_42 (dk_at dksJ21_fillNull_0 0 rfl rfl)
theorem dJ21_fillNull_1 : decode cJ21_fillNull 1 = .ok (.iload_n 1, 1) := dk_27 (dk_at dksJ21_fillNull_0 1 rfl rfl)
theorem dJ21_fillNull_2 : decode cJ21_fillNull 2 = .ok (.iload_n 2, 1) := dk_28 (dk_at dksJ21_fillNull_0 2 rfl rfl)
theorem dJ21_fillNull_3 : decode cJ21_fillNull 3 = .ok (.iconst 0, 1) := dk_3 (dk_at dksJ21_fillNull_0 3 rfl rfl)
theorem dJ21_fillNull_4 : decode cJ21_fillNull 4 = .ok (.invokestatic 236, 3) := dk_184 0 236 (dk_at dksJ21_fillNull_0 4 rfl rfl)
theorem dJ21_fillNull_7 : decode cJ21_fillNull 7 = .ok (.return_, 1) := dk_177 (dk_at dksJ21_fillNull_0 7 rfl rfl)
abbrev cJ21_canEncode : ByteArray := prog_42_method_3_code
def yJ21_canEncode : MethodName := ⟨RJ21, "canEncode", "(C)Z"⟩
def dkwJ21_canEncode_0 : List UInt8 := [26, 17, 0, 255, 163, 0, 7, 4, 167, 0, 4, 3, 172]
abbrev dktJ21_canEncode_0 : List UInt8 := dkwJ21_canEncode_0 ++ []
theorem dksJ21_canEncode_0 : cJ21_canEncode.data.toList.drop 0 = dktJ21_canEncode_0 := by decide +kernel
theorem dJ21_canEncode_0 : decode cJ21_canEncode 0 = .ok (.iload_n 0, 1) := dk_26 (dk_at dksJ21_canEncode_0 0 rfl rfl)
theorem dJ21_canEncode_1 : decode cJ21_canEncode 1 = .ok (.sipush 255, 3) := dk_17 0 255 (dk_at dksJ21_canEncode_0 1 rfl rfl)
theorem dJ21_canEncode_4 : decode cJ21_canEncode 4 = .ok (.if_icmp .gt 7, 3) := dk_163 0 7 (dk_at dksJ21_canEncode_0 4 rfl rfl)
theorem dJ21_canEncode_7 : decode cJ21_canEncode 7 = .ok (.iconst 1, 1) := dk_4 (dk_at dksJ21_canEncode_0 7 rfl rfl)
theorem dJ21_canEncode_8 : decode cJ21_canEncode 8 = .ok (.goto 4, 3) := dk_167 0 4 (dk_at dksJ21_canEncode_0 8 rfl rfl)
theorem dJ21_canEncode_11 : decode cJ21_canEncode 11 = .ok (.iconst 0, 1) := dk_3 (dk_at dksJ21_canEncode_0 11 rfl rfl)
theorem dJ21_canEncode_12 : decode cJ21_canEncode 12 = .ok (.ireturn, 1) := dk_172 (dk_at dksJ21_canEncode_0 12 rfl rfl)
theorem q103 : (Jvm.Cond.initialized "java/lang/StringLatin1") ∈ lw_all := lw_g (lw_at lw_m1 30 rfl) rfl
theorem q642 : (Jvm.Cond.static ({ cls := "java/lang/StringLatin1", name := "inflate", desc := "([BI[BII)V" } : Jvm.MethodName)) ∈ lw_all := lw_g (lw_at lw_m3 89 rfl) rfl
theorem q643 : (Jvm.Cond.code ({ cls := "java/lang/StringLatin1", name := "inflate", desc := "([BI[BII)V" } : Jvm.MethodName) prog_42_method_50_code (5 : Nat) (Option.none : Option Jvm.ClassFile.FieldType)) ∈ lw_all := lw_g (lw_at lw_m3 90 rfl) rfl
theorem q1528 : (Jvm.Cond.static ({ cls := "java/lang/StringLatin1", name := "hashCode", desc := "([B)I" } : Jvm.MethodName)) ∈ lw_all := lw_g (lw_at lw_m7 15 rfl) rfl
theorem q1529 : (Jvm.Cond.code ({ cls := "java/lang/StringLatin1", name := "hashCode", desc := "([B)I" } : Jvm.MethodName) prog_42_method_21_code (1 : Nat) (Option.some Jvm.ClassFile.FieldType.int)) ∈ lw_all := lw_g (lw_at lw_m7 16 rfl) rfl
theorem q1530 : (Jvm.Cond.methodLink "java/lang/StringLatin1" (84 : Nat) ({ cls := "jdk/internal/util/ArraysSupport", name := "vectorizedHashCode", desc := "(Ljava/lang/Object;IIII)I" } : Jvm.MethodName)) ∈ lw_all := lw_g (lw_at lw_m7 17 rfl) rfl
theorem q1630 : (Jvm.Cond.static ({ cls := "java/lang/StringLatin1", name := "equals", desc := "([B[B)Z" } : Jvm.MethodName)) ∈ lw_all := lw_g (lw_at lw_m7 117 rfl) rfl
theorem q1631 : (Jvm.Cond.code ({ cls := "java/lang/StringLatin1", name := "equals", desc := "([B[B)Z" } : Jvm.MethodName) prog_42_method_13_code (3 : Nat) (Option.some Jvm.ClassFile.FieldType.boolean)) ∈ lw_all := lw_g (lw_at lw_m7 118 rfl) rfl
theorem q2512 : (Jvm.Cond.static ({ cls := "java/lang/StringLatin1", name := "fillNull", desc := "([BII)V" } : Jvm.MethodName)) ∈ lw_all := lw_g (lw_at lw_m11 39 rfl) rfl
theorem q2513 : (Jvm.Cond.code ({ cls := "java/lang/StringLatin1", name := "fillNull", desc := "([BII)V" } : Jvm.MethodName) prog_42_method_48_code (3 : Nat) (Option.none : Option Jvm.ClassFile.FieldType)) ∈ lw_all := lw_g (lw_at lw_m11 40 rfl) rfl
theorem q2514 : (Jvm.Cond.methodLink "java/lang/StringLatin1" (236 : Nat) ({ cls := "java/util/Arrays", name := "fill", desc := "([BIIB)V" } : Jvm.MethodName)) ∈ lw_all := lw_g (lw_at lw_m11 41 rfl) rfl
theorem q2546 : (Jvm.Cond.static ({ cls := "java/lang/StringLatin1", name := "canEncode", desc := "(C)Z" } : Jvm.MethodName)) ∈ lw_all := lw_g (lw_at lw_m11 73 rfl) rfl
theorem q2547 : (Jvm.Cond.code ({ cls := "java/lang/StringLatin1", name := "canEncode", desc := "(C)Z" } : Jvm.MethodName) prog_42_method_3_code (1 : Nat) (Option.some Jvm.ClassFile.FieldType.boolean)) ∈ lw_all := lw_g (lw_at lw_m11 74 rfl) rfl
/-! java/lang/Integer -/
def RJ23 : String := "java/lang/Integer"
abbrev cJ23_stringSize : ByteArray := prog_31_method_13_code
def yJ23_stringSize : MethodName := ⟨RJ23, "stringSize", "(I)I"⟩
def dkwJ23_stringSize_1 : List UInt8 := [164, 0, 7, 29, 27, 96, 172, 16, 10, 28, 104, 61, 132, 3, 1, 167, 255, 233, 16, 10, 27, 96, 172]
abbrev dktJ23_stringSize_1 : List UInt8 := dkwJ23_stringSize_1 ++ []
def dkwJ23_stringSize_0 : List UInt8 := [4, 60, 26, 155, 0, 8, 3, 60, 26, 116, 59, 16, 246, 61, 4, 62, 29, 16, 10, 162, 0, 23, 26, 28]
abbrev dktJ23_stringSize_0 : List UInt8 := dkwJ23_stringSize_0 ++ dktJ23_stringSize_1
theorem dksJ23_stringSize_0 : cJ23_stringSize.data.toList.drop 0 = dktJ23_stringSize_0 := by decide +kernel
theorem dksJ23_stringSize_1 : cJ23_stringSize.data.toList.drop 24 = dktJ23_stringSize_1 := dk_seg dksJ23_stringSize_0 24 rfl rfl
theorem dJ23_stringSize_0 : decode cJ23_stringSize 0 = .ok (.iconst 1, 1) := dk_4 (dk_at dksJ23_stringSize_0 0 rfl rfl)
theorem dJ23_stringSize_1 : decode cJ23_stringSize 1 = .ok (.istore_n 1, 1) := dk_60 (dk_at dksJ23_stringSize_0 1 rfl rfl)
theorem dJ23_stringSize_2 : decode cJ23_stringSize 2 = .ok (.iload_n 0, 1) := dk_26 (dk_at dksJ23_stringSize_0 2 rfl rfl)
theorem dJ23_stringSize_3 : decode cJ23_stringSize 3 = .ok (.ifCond .lt 8, 3) := dk_155 0 8 (dk_at dksJ23_stringSize_0 3 rfl rfl)
theorem dJ23_stringSize_6 : decode cJ23_stringSize 6 = .ok (.iconst 0, 1) := dk_3 (dk_at dksJ23_stringSize_0 6 rfl rfl)
theorem dJ23_stringSize_7 : decode cJ23_stringSize 7 = .ok (.istore_n 1, 1) := dk_60 (dk_at dksJ23_stringSize_0 7 rfl rfl)
theorem dJ23_stringSize_8 : decode cJ23_stringSize 8 = .ok (.iload_n 0, 1) := dk_26 (dk_at dksJ23_stringSize_0 8 rfl rfl)
theorem dJ23_stringSize_9 : decode cJ23_stringSize 9 = .ok (.ineg, 1) := dk_116 (dk_at dksJ23_stringSize_0 9 rfl rfl)
theorem dJ23_stringSize_10 : decode cJ23_stringSize 10 = .ok (.istore_n 0, 1) := dk_59 (dk_at dksJ23_stringSize_0 10 rfl rfl)
theorem dJ23_stringSize_11 : decode cJ23_stringSize 11 = .ok (.bipush (-10), 2) := dk_16 246 (dk_at dksJ23_stringSize_0 11 rfl rfl)
theorem dJ23_stringSize_13 : decode cJ23_stringSize 13 = .ok (.istore_n 2, 1) := dk_61 (dk_at dksJ23_stringSize_0 13 rfl rfl)
theorem dJ23_stringSize_14 : decode cJ23_stringSize 14 = .ok (.iconst 1, 1) := dk_4 (dk_at dksJ23_stringSize_0 14 rfl rfl)
theorem dJ23_stringSize_15 : decode cJ23_stringSize 15 = .ok (.istore_n 3, 1) := dk_62 (dk_at dksJ23_stringSize_0 15 rfl rfl)
theorem dJ23_stringSize_16 : decode cJ23_stringSize 16 = .ok (.iload_n 3, 1) := dk_29 (dk_at dksJ23_stringSize_0 16 rfl rfl)
theorem dJ23_stringSize_17 : decode cJ23_stringSize 17 = .ok (.bipush 10, 2) := dk_16 10 (dk_at dksJ23_stringSize_0 17 rfl rfl)
theorem dJ23_stringSize_19 : decode cJ23_stringSize 19 = .ok (.if_icmp .ge 23, 3) := dk_162 0 23 (dk_at dksJ23_stringSize_0 19 rfl rfl)
theorem dJ23_stringSize_22 : decode cJ23_stringSize 22 = .ok (.iload_n 0, 1) := dk_26 (dk_at dksJ23_stringSize_0 22 rfl rfl)
theorem dJ23_stringSize_23 : decode cJ23_stringSize 23 = .ok (.iload_n 2, 1) := dk_28 (dk_at dksJ23_stringSize_0 23 rfl rfl)
theorem dJ23_stringSize_24 : decode cJ23_stringSize 24 = .ok (.if_icmp .le 7, 3) := dk_164 0 7 (dk_at dksJ23_stringSize_1 0 rfl rfl)
theorem dJ23_stringSize_27 : decode cJ23_stringSize 27 = .ok (.iload_n 3, 1) := dk_29 (dk_at dksJ23_stringSize_1 3 rfl rfl)
theorem dJ23_stringSize_28 : decode cJ23_stringSize 28 = .ok (.iload_n 1, 1) := dk_27 (dk_at dksJ23_stringSize_1 4 rfl rfl)
theorem dJ23_stringSize_29 : decode cJ23_stringSize 29 = .ok (.iadd, 1) := dk_96 (dk_at dksJ23_stringSize_1 5 rfl rfl)
theorem dJ23_stringSize_30 : decode cJ23_stringSize 30 = .ok (.ireturn, 1) := dk_172 (dk_at dksJ23_stringSize_1 6 rfl rfl)
theorem dJ23_stringSize_31 : decode cJ23_stringSize 31 = .ok (.bipush 10, 2) := dk_16 10 (dk_at dksJ23_stringSize_1 7 rfl rfl)
theorem dJ23_stringSize_33 : decode cJ23_stringSize 33 = .ok (.iload_n 2, 1) := dk_28 (dk_at dksJ23_stringSize_1 9 rfl rfl)
theorem dJ23_stringSize_34 : decode cJ23_stringSize 34 = .ok (.imul, 1) := dk_104 (dk_at dksJ23_stringSize_1 10 rfl rfl)
theorem dJ23_stringSize_35 : decode cJ23_stringSize 35 = .ok (.istore_n 2, 1) := dk_61 (dk_at dksJ23_stringSize_1 11 rfl rfl)
theorem dJ23_stringSize_36 : decode cJ23_stringSize 36 = .ok (.iinc 3 1, 3) := dk_132 3 1 (dk_at dksJ23_stringSize_1 12 rfl rfl)
theorem dJ23_stringSize_39 : decode cJ23_stringSize 39 = .ok (.goto (-23), 3) := dk_167 255 233 (dk_at dksJ23_stringSize_1 15 rfl rfl)
theorem dJ23_stringSize_42 : decode cJ23_stringSize 42 = .ok (.bipush 10, 2) := dk_16 10 (dk_at dksJ23_stringSize_1 18 rfl rfl)
theorem dJ23_stringSize_44 : decode cJ23_stringSize 44 = .ok (.iload_n 1, 1) := dk_27 (dk_at dksJ23_stringSize_1 20 rfl rfl)
theorem dJ23_stringSize_45 : decode cJ23_stringSize 45 = .ok (.iadd, 1) := dk_96 (dk_at dksJ23_stringSize_1 21 rfl rfl)
theorem dJ23_stringSize_46 : decode cJ23_stringSize 46 = .ok (.ireturn, 1) := dk_172 (dk_at dksJ23_stringSize_1 22 rfl rfl)
abbrev cJ23_getChars : ByteArray := prog_31_method_12_code
def yJ23_getChars : MethodName := ⟨RJ23, "getChars", "(II[B)I"⟩
def dkwJ23_getChars_5 : List UInt8 := [16, 45, 84, 21, 5, 172]
abbrev dktJ23_getChars_5 : List UInt8 := dkwJ23_getChars_5 ++ []
def dkwJ23_getChars_4 : List UInt8 := [132, 5, 255, 21, 5, 178, 0, 87, 26, 116, 51, 84, 21, 6, 153, 0, 12, 44, 132, 5, 255, 21, 5]
abbrev dktJ23_getChars_4 : List UInt8 := dkwJ23_getChars_4 ++ dktJ23_getChars_5
def dkwJ23_getChars_3 : List UInt8 := [167, 255, 209, 44, 132, 5, 255, 21, 5, 178, 0, 83, 26, 116, 51, 84, 26, 16, 247, 162, 0, 16, 44]
abbrev dktJ23_getChars_3 : List UInt8 := dkwJ23_getChars_3 ++ dktJ23_getChars_4
def dkwJ23_getChars_2 : List UInt8 := [21, 5, 178, 0, 83, 21, 4, 51, 84, 44, 132, 5, 255, 21, 5, 178, 0, 87, 21, 4, 51, 84]
abbrev dktJ23_getChars_2 : List UInt8 := dkwJ23_getChars_2 ++ dktJ23_getChars_3
def dkwJ23_getChars_1 : List UInt8 := [16, 156, 163, 0, 47, 26, 16, 100, 108, 62, 29, 16, 100, 104, 26, 100, 54, 4, 29, 59, 44, 132, 5, 255]
abbrev dktJ23_getChars_1 : List UInt8 := dkwJ23_getChars_1 ++ dktJ23_getChars_2
def dkwJ23_getChars_0 : List UInt8 := [27, 54, 5, 26, 156, 0, 7, 4, 167, 0, 4, 3, 54, 6, 21, 6, 154, 0, 6, 26, 116, 59, 26]
abbrev dktJ23_getChars_0 : List UInt8 := dkwJ23_getChars_0 ++ dktJ23_getChars_1
theorem dksJ23_getChars_0 : cJ23_getChars.data.toList.drop 0 = dktJ23_getChars_0 := by decide +kernel
theorem dksJ23_getChars_1 : cJ23_getChars.data.toList.drop 23 = dktJ23_getChars_1 := dk_seg dksJ23_getChars_0 23 rfl rfl
theorem dksJ23_getChars_2 : cJ23_getChars.data.toList.drop 47 = dktJ23_getChars_2 := dk_seg dksJ23_getChars_1 24 rfl rfl
theorem dksJ23_getChars_3 : cJ23_getChars.data.toList.drop 69 = dktJ23_getChars_3 := dk_seg dksJ23_getChars_2 22 rfl rfl
theorem dksJ23_getChars_4 : cJ23_getChars.data.toList.drop 92 = dktJ23_getChars_4 := dk_seg dksJ23_getChars_3 23 rfl rfl
theorem dksJ23_getChars_5 : cJ23_getChars.data.toList.drop 115 = dktJ23_getChars_5 := dk_seg dksJ23_getChars_4 23 rfl rfl
theorem dJ23_getChars_0 : decode cJ23_getChars 0 = .ok (.iload_n 1, 1) := dk_27 (dk_at dksJ23_getChars_0 0 rfl rfl)
theorem dJ23_getChars_1 : decode cJ23_getChars 1 = .ok (.istore 5, 2) := dk_54 5 (dk_at dksJ23_getChars_0 1 rfl rfl)
theorem dJ23_getChars_3 : decode cJ23_getChars 3 = .ok (.iload_n 0, 1) := dk_26 (dk_at dksJ23_getChars_0 3 rfl rfl)
theorem dJ23_getChars_4 : decode cJ23_getChars 4 = .ok (.ifCond .ge 7, 3) := dk_156 0 7 (dk_at dksJ23_getChars_0 4 rfl rfl)
theorem dJ23_getChars_7 : decode cJ23_getChars 7 = .ok (.iconst 1, 1) := dk_4 (dk_at dksJ23_getChars_0 7 rfl rfl)
theorem dJ23_getChars_8 : decode cJ23_getChars 8 = .ok (.goto 4, 3) := dk_167 0 4 (dk_at dksJ23_getChars_0 8 rfl rfl)
theorem dJ23_getChars_11 : decode cJ23_getChars 11 = .ok (.iconst 0, 1) := dk_3 (dk_at dksJ23_getChars_0 11 rfl rfl)
theorem dJ23_getChars_12 : decode cJ23_getChars 12 = .ok (.istore 6, 2) := dk_54 6 (dk_at dksJ23_getChars_0 12 rfl rfl)
theorem dJ23_getChars_14 : decode cJ23_getChars 14 = .ok (.iload 6, 2) := dk_21 6 (dk_at dksJ23_getChars_0 14 rfl rfl)
theorem dJ23_getChars_16 : decode cJ23_getChars 16 = .ok (.ifCond .ne 6, 3) := dk_154 0 6 (dk_at dksJ23_getChars_0 16 rfl rfl)
theorem dJ23_getChars_19 : decode cJ23_getChars 19 = .ok (.iload_n 0, 1) := dk_26 (dk_at dksJ23_getChars_0 19 rfl rfl)
theorem dJ23_getChars_20 : decode cJ23_getChars 20 = .ok (.ineg, 1) := dk_116 (dk_at dksJ23_getChars_0 20 rfl rfl)
theorem dJ23_getChars_21 : decode cJ23_getChars 21 = .ok (.istore_n 0, 1) := dk_59 (dk_at dksJ23_getChars_0 21 rfl rfl)
theorem dJ23_getChars_22 : decode cJ23_getChars 22 = .ok (.iload_n 0, 1) := dk_26 (dk_at dksJ23_getChars_0 22 rfl rfl)
theorem dJ23_getChars_23 : decode cJ23_getChars 23 = .ok (.bipush (-100), 2) := dk_16 156 (dk_at dksJ23_getChars_1 0 rfl rfl)
theorem dJ23_getChars_25 : decode cJ23_getChars 25 = .ok (.if_icmp .gt 47, 3) := dk_163 0 47 (dk_at dksJ23_getChars_1 2 rfl rfl)
theorem dJ23_getChars_28 : decode cJ23_getChars 28 = .ok (.iload_n 0, 1) := dk_26 (dk_at dksJ23_getChars_1 5 rfl rfl)
theorem dJ23_getChars_29 : decode cJ23_getChars 29 = .ok (.bipush 100, 2) := dk_16 100 (dk_at dksJ23_getChars_1 6 rfl rfl)
theorem dJ23_getChars_31 : decode cJ23_getChars 31 = .ok (.idiv, 1) := dk_108 (dk_at dksJ23_getChars_1 8 rfl rfl)
theorem dJ23_getChars_32 : decode cJ23_getChars 32 = .ok (.istore_n 3, 1) := dk_62 (dk_at dksJ23_getChars_1 9 rfl rfl)
theorem dJ23_getChars_33 : decode cJ23_getChars 33 = .ok (.iload_n 3, 1) := dk_29 (dk_at dksJ23_getChars_1 10 rfl rfl)
theorem dJ23_getChars_34 : decode cJ23_getChars 34 = .ok (.bipush 100, 2) := dk_16 100 (dk_at dksJ23_getChars_1 11 rfl rfl)
theorem dJ23_getChars_36 : decode cJ23_getChars 36 = .ok (.imul, 1) := dk_104 (dk_at dksJ23_getChars_1 13 rfl rfl)
theorem dJ23_getChars_37 : decode cJ23_getChars 37 = .ok (.iload_n 0, 1) := dk_26 (dk_at dksJ23_getChars_1 14 rfl rfl)
theorem dJ23_getChars_38 : decode cJ23_getChars 38 = .ok (.isub, 1) := dk_100 (dk_at dksJ23_getChars_1 15 rfl rfl)
theorem dJ23_getChars_39 : decode cJ23_getChars 39 = .ok (.istore 4, 2) := dk_54 4 (dk_at dksJ23_getChars_1 16 rfl rfl)
theorem dJ23_getChars_41 : decode cJ23_getChars 41 = .ok (.iload_n 3, 1) := dk_29 (dk_at dksJ23_getChars_1 18 rfl rfl)
theorem dJ23_getChars_42 : decode cJ23_getChars 42 = .ok (.istore_n 0, 1) := dk_59 (dk_at dksJ23_getChars_1 19 rfl rfl)
theorem dJ23_getChars_43 : decode cJ23_getChars 43 = .ok (.aload_n 2, 1) := dk_44 (dk_at dksJ23_getChars_1 20 rfl rfl)
theorem dJ23_getChars_44 : decode cJ23_getChars 44 = .ok (.iinc 5 (-1), 3) := dk_132 5 255 (dk_at dksJ23_getChars_1 21 rfl rfl)
theorem dJ23_getChars_47 : decode cJ23_getChars 47 = .ok (.iload 5, 2) := dk_21 5 (dk_at dksJ23_getChars_2 0 rfl rfl)
theorem dJ23_getChars_49 : decode cJ23_getChars 49 = .ok (.getstatic 83, 3) := dk_178 0 83 (dk_at dksJ23_getChars_2 2 rfl rfl)
theorem dJ23_getChars_52 : decode cJ23_getChars 52 = .ok (.iload 4, 2) := dk_21 4 (dk_at dksJ23_getChars_2 5 rfl rfl)
theorem dJ23_getChars_54 : decode cJ23_getChars 54 = .ok (.baload, 1) := dk_51 (dk_at dksJ23_getChars_2 7 rfl rfl)
theorem dJ23_getChars_55 : decode cJ23_getChars 55 = .ok (.bastore, 1) := dk_84 (dk_at dksJ23_getChars_2 8 rfl rfl)
theorem dJ23_getChars_56 : decode cJ23_getChars 56 = .ok (.aload_n 2, 1) := dk_44 (dk_at dksJ23_getChars_2 9 rfl rfl)
theorem dJ23_getChars_57 : decode cJ23_getChars 57 = .ok (.iinc 5 (-1), 3) := dk_132 5 255 (dk_at dksJ23_getChars_2 10 rfl rfl)
theorem dJ23_getChars_60 : decode cJ23_getChars 60 = .ok (.iload 5, 2) := dk_21 5 (dk_at dksJ23_getChars_2 13 rfl rfl)
theorem dJ23_getChars_62 : decode cJ23_getChars 62 = .ok (.getstatic 87, 3) := dk_178 0 87 (dk_at dksJ23_getChars_2 15 rfl rfl)
theorem dJ23_getChars_65 : decode cJ23_getChars 65 = .ok (.iload 4, 2) := dk_21 4 (dk_at dksJ23_getChars_2 18 rfl rfl)
theorem dJ23_getChars_67 : decode cJ23_getChars 67 = .ok (.baload, 1) := dk_51 (dk_at dksJ23_getChars_2 20 rfl rfl)
theorem dJ23_getChars_68 : decode cJ23_getChars 68 = .ok (.bastore, 1) := dk_84 (dk_at dksJ23_getChars_2 21 rfl rfl)
theorem dJ23_getChars_69 : decode cJ23_getChars 69 = .ok (.goto (-47), 3) := dk_167 255 209 (dk_at dksJ23_getChars_3 0 rfl rfl)
theorem dJ23_getChars_72 : decode cJ23_getChars 72 = .ok (.aload_n 2, 1) := dk_44 (dk_at dksJ23_getChars_3 3 rfl rfl)
theorem dJ23_getChars_73 : decode cJ23_getChars 73 = .ok (.iinc 5 (-1), 3) := dk_132 5 255 (dk_at dksJ23_getChars_3 4 rfl rfl)
theorem dJ23_getChars_76 : decode cJ23_getChars 76 = .ok (.iload 5, 2) := dk_21 5 (dk_at dksJ23_getChars_3 7 rfl rfl)
theorem dJ23_getChars_78 : decode cJ23_getChars 78 = .ok (.getstatic 83, 3) := dk_178 0 83 (dk_at dksJ23_getChars_3 9 rfl rfl)
theorem dJ23_getChars_81 : decode cJ23_getChars 81 = .ok (.iload_n 0, 1) := dk_26 (dk_at dksJ23_getChars_3 12 rfl rfl)
theorem dJ23_getChars_82 : decode cJ23_getChars 82 = .ok (.ineg, 1) := dk_116 (dk_at dksJ23_getChars_3 13 rfl rfl)
theorem dJ23_getChars_83 : decode cJ23_getChars 83 = .ok (.baload, 1) := dk_51 (dk_at dksJ23_getChars_3 14 rfl rfl)
theorem dJ23_getChars_84 : decode cJ23_getChars 84 = .ok (.bastore, 1) := dk_84 (dk_at dksJ23_getChars_3 15 rfl rfl)
theorem dJ23_getChars_85 : decode cJ23_getChars 85 = .ok (.iload_n 0, 1) := dk_26 (dk_at dksJ23_getChars_3 16 rfl rfl)
theorem dJ23_getChars_86 : decode cJ23_getChars 86 = .ok (.bipush (-9), 2) := dk_16 247 (dk_at dksJ23_getChars_3 17 rfl rfl)
theorem dJ23_getChars_88 : decode cJ23_getChars 88 = .ok (.if_icmp .ge 16, 3) := dk_162 0 16 (dk_at dksJ23_getChars_3 19 rfl rfl)
theorem dJ23_getChars_91 : decode cJ23_getChars 91 = .ok (.aload_n 2, 1) := dk_44 (dk_at dksJ23_getChars_3 22 rfl rfl)
theorem dJ23_getChars_92 : decode cJ23_getChars 92 = .ok (.iinc 5 (-1), 3) := dk_132 5 255 (dk_at dksJ23_getChars_4 0 rfl rfl)
theorem dJ23_getChars_95 : decode cJ23_getChars 95 = .ok (.iload 5, 2) := dk_21 5 (dk_at dksJ23_getChars_4 3 rfl rfl)
theorem dJ23_getChars_97 : decode cJ23_getChars 97 = .ok (.getstatic 87, 3) := dk_178 0 87 (dk_at dksJ23_getChars_4 5 rfl rfl)
theorem dJ23_getChars_100 : decode cJ23_getChars 100 = .ok (.iload_n 0, 1) := dk_26 (dk_at dksJ23_getChars_4 8 rfl rfl)
theorem dJ23_getChars_101 : decode cJ23_getChars 101 = .ok (.ineg, 1) := dk_116 (dk_at dksJ23_getChars_4 9 rfl rfl)
theorem dJ23_getChars_102 : decode cJ23_getChars 102 = .ok (.baload, 1) := dk_51 (dk_at dksJ23_getChars_4 10 rfl rfl)
theorem dJ23_getChars_103 : decode cJ23_getChars 103 = .ok (.bastore, 1) := dk_84 (dk_at dksJ23_getChars_4 11 rfl rfl)
theorem dJ23_getChars_104 : decode cJ23_getChars 104 = .ok (.iload 6, 2) := dk_21 6 (dk_at dksJ23_getChars_4 12 rfl rfl)
theorem dJ23_getChars_106 : decode cJ23_getChars 106 = .ok (.ifCond .eq 12, 3) := dk_153 0 12 (dk_at dksJ23_getChars_4 14 rfl rfl)
theorem dJ23_getChars_109 : decode cJ23_getChars 109 = .ok (.aload_n 2, 1) := dk_44 (dk_at dksJ23_getChars_4 17 rfl rfl)
theorem dJ23_getChars_110 : decode cJ23_getChars 110 = .ok (.iinc 5 (-1), 3) := dk_132 5 255 (dk_at dksJ23_getChars_4 18 rfl rfl)
theorem dJ23_getChars_113 : decode cJ23_getChars 113 = .ok (.iload 5, 2) := dk_21 5 (dk_at dksJ23_getChars_4 21 rfl rfl)
theorem dJ23_getChars_115 : decode cJ23_getChars 115 = .ok (.bipush 45, 2) := dk_16 45 (dk_at dksJ23_getChars_5 0 rfl rfl)
theorem dJ23_getChars_117 : decode cJ23_getChars 117 = .ok (.bastore, 1) := dk_84 (dk_at dksJ23_getChars_5 2 rfl rfl)
theorem dJ23_getChars_118 : decode cJ23_getChars 118 = .ok (.iload 5, 2) := dk_21 5 (dk_at dksJ23_getChars_5 3 rfl rfl)
theorem dJ23_getChars_120 : decode cJ23_getChars 120 = .ok (.ireturn, 1) := dk_172 (dk_at dksJ23_getChars_5 5 rfl rfl)
abbrev cJ23_numberOfLeadingZeros : ByteArray := prog_31_method_47_code
def yJ23_numberOfLeadingZeros : MethodName := ⟨RJ23, "numberOfLeadingZeros", "(I)I"⟩
def dkwJ23_numberOfLeadingZeros_3 : List UInt8 := [5, 124, 59, 27, 26, 4, 124, 100, 172]
abbrev dktJ23_numberOfLeadingZeros_3 : List UInt8 := dkwJ23_numberOfLeadingZeros_3 ++ []
def dkwJ23_numberOfLeadingZeros_2 : List UInt8 := [124, 59, 26, 16, 16, 161, 0, 10, 132, 1, 252, 26, 7, 124, 59, 26, 7, 161, 0, 10, 132, 1, 254, 26]
abbrev dktJ23_numberOfLeadingZeros_2 : List UInt8 := dkwJ23_numberOfLeadingZeros_2 ++ dktJ23_numberOfLeadingZeros_3
def dkwJ23_numberOfLeadingZeros_1 : List UInt8 := [161, 0, 11, 132, 1, 240, 26, 16, 16, 124, 59, 26, 17, 1, 0, 161, 0, 11, 132, 1, 248, 26, 16, 8]
abbrev dktJ23_numberOfLeadingZeros_1 : List UInt8 := dkwJ23_numberOfLeadingZeros_1 ++ dktJ23_numberOfLeadingZeros_2
def dkwJ23_numberOfLeadingZeros_0 : List UInt8 := [26, 157, 0, 14, 26, 154, 0, 8, 16, 32, 167, 0, 4, 3, 172, 16, 31, 60, 26, 19, 1, 8]
abbrev dktJ23_numberOfLeadingZeros_0 : List UInt8 := dkwJ23_numberOfLeadingZeros_0 ++ dktJ23_numberOfLeadingZeros_1
theorem dksJ23_numberOfLeadingZeros_0 : cJ23_numberOfLeadingZeros.data.toList.drop 0 = dktJ23_numberOfLeadingZeros_0 := by decide +kernel
theorem dksJ23_numberOfLeadingZeros_1 : cJ23_numberOfLeadingZeros.data.toList.drop 22 = dktJ23_numberOfLeadingZeros_1 := dk_seg dksJ23_numberOfLeadingZeros_0 22 rfl rfl
theorem dksJ23_numberOfLeadingZeros_2 : cJ23_numberOfLeadingZeros.data.toList.drop 46 = dktJ23_numberOfLeadingZeros_2 := dk_seg dksJ23_numberOfLeadingZeros_1 24 rfl rfl
theorem dksJ23_numberOfLeadingZeros_3 : cJ23_numberOfLeadingZeros.data.toList.drop 70 = dktJ23_numberOfLeadingZeros_3 := dk_seg dksJ23_numberOfLeadingZeros_2 24 rfl rfl
theorem dJ23_numberOfLeadingZeros_0 : decode cJ23_numberOfLeadingZeros 0 = .ok (.iload_n 0, 1) := dk_26 (dk_at dksJ23_numberOfLeadingZeros_0 0 rfl rfl)
theorem dJ23_numberOfLeadingZeros_1 : decode cJ23_numberOfLeadingZeros 1 = .ok (.ifCond .gt 14, 3) := dk_157 0 14 (dk_at dksJ23_numberOfLeadingZeros_0 1 rfl rfl)
theorem dJ23_numberOfLeadingZeros_4 : decode cJ23_numberOfLeadingZeros 4 = .ok (.iload_n 0, 1) := dk_26 (dk_at dksJ23_numberOfLeadingZeros_0 4 rfl rfl)
theorem dJ23_numberOfLeadingZeros_5 : decode cJ23_numberOfLeadingZeros 5 = .ok (.ifCond .ne 8, 3) := dk_154 0 8 (dk_at dksJ23_numberOfLeadingZeros_0 5 rfl rfl)
theorem dJ23_numberOfLeadingZeros_8 : decode cJ23_numberOfLeadingZeros 8 = .ok (.bipush 32, 2) := dk_16 32 (dk_at dksJ23_numberOfLeadingZeros_0 8 rfl rfl)
theorem dJ23_numberOfLeadingZeros_10 : decode cJ23_numberOfLeadingZeros 10 = .ok (.goto 4, 3) := dk_167 0 4 (dk_at dksJ23_numberOfLeadingZeros_0 10 rfl rfl)
theorem dJ23_numberOfLeadingZeros_13 : decode cJ23_numberOfLeadingZeros 13 = .ok (.iconst 0, 1) := dk_3 (dk_at dksJ23_numberOfLeadingZeros_0 13 rfl rfl)
theorem dJ23_numberOfLeadingZeros_14 : decode cJ23_numberOfLeadingZeros 14 = .ok (.ireturn, 1) := dk_172 (dk_at dksJ23_numberOfLeadingZeros_0 14 rfl rfl)
theorem dJ23_numberOfLeadingZeros_15 : decode cJ23_numberOfLeadingZeros 15 = .ok (.bipush 31, 2) := dk_16 31 (dk_at dksJ23_numberOfLeadingZeros_0 15 rfl rfl)
theorem dJ23_numberOfLeadingZeros_17 : decode cJ23_numberOfLeadingZeros 17 = .ok (.istore_n 1, 1) := dk_60 (dk_at dksJ23_numberOfLeadingZeros_0 17 rfl rfl)
theorem dJ23_numberOfLeadingZeros_18 : decode cJ23_numberOfLeadingZeros 18 = .ok (.iload_n 0, 1) := dk_26 (dk_at dksJ23_numberOfLeadingZeros_0 18 rfl rfl)
theorem dJ23_numberOfLeadingZeros_19 : decode cJ23_numberOfLeadingZeros 19 = .ok (.ldc_w 264, 3) := dk_19 1 8 (dk_at dksJ23_numberOfLeadingZeros_0 19 rfl rfl)
theorem dJ23_numberOfLeadingZeros_22 : decode cJ23_numberOfLeadingZeros 22 = .ok (.if_icmp .lt 11, 3) := dk_161 0 11 (dk_at dksJ23_numberOfLeadingZeros_1 0 rfl rfl)
theorem dJ23_numberOfLeadingZeros_25 : decode cJ23_numberOfLeadingZeros 25 = .ok (.iinc 1 (-16), 3) := dk_132 1 240 (dk_at dksJ23_numberOfLeadingZeros_1 3 rfl rfl)
theorem dJ23_numberOfLeadingZeros_28 : decode cJ23_numberOfLeadingZeros 28 = .ok (.iload_n 0, 1) := dk_26 (dk_at dksJ23_numberOfLeadingZeros_1 6 rfl rfl)
theorem dJ23_numberOfLeadingZeros_29 : decode cJ23_numberOfLeadingZeros 29 = .ok (.bipush 16, 2) := dk_16 16 (dk_at dksJ23_numberOfLeadingZeros_1 7 rfl rfl)
theorem dJ23_numberOfLeadingZeros_31 : decode cJ23_numberOfLeadingZeros 31 = .ok (.iushr, 1) := dk_124 (dk_at dksJ23_numberOfLeadingZeros_1 9 rfl rfl)
theorem dJ23_numberOfLeadingZeros_32 : decode cJ23_numberOfLeadingZeros 32 = .ok (.istore_n 0, 1) := dk_59 (dk_at dksJ23_numberOfLeadingZeros_1 10 rfl rfl)
theorem dJ23_numberOfLeadingZeros_33 : decode cJ23_numberOfLeadingZeros 33 = .ok (.iload_n 0, 1) := dk_26 (dk_at dksJ23_numberOfLeadingZeros_1 11 rfl rfl)
theorem dJ23_numberOfLeadingZeros_34 : decode cJ23_numberOfLeadingZeros 34 = .ok (.sipush 256, 3) := dk_17 1 0 (dk_at dksJ23_numberOfLeadingZeros_1 12 rfl rfl)
theorem dJ23_numberOfLeadingZeros_37 : decode cJ23_numberOfLeadingZeros 37 = .ok (.if_icmp .lt 11, 3) := dk_161 0 11 (dk_at dksJ23_numberOfLeadingZeros_1 15 rfl rfl)
theorem dJ23_numberOfLeadingZeros_40 : decode cJ23_numberOfLeadingZeros 40 = .ok (.iinc 1 (-8), 3) := dk_132 1 248 (dk_at dksJ23_numberOfLeadingZeros_1 18 rfl rfl)
theorem dJ23_numberOfLeadingZeros_43 : decode cJ23_numberOfLeadingZeros 43 = .ok (.iload_n 0, 1) := dk_26 (dk_at dksJ23_numberOfLeadingZeros_1 21 rfl rfl)
theorem dJ23_numberOfLeadingZeros_44 : decode cJ23_numberOfLeadingZeros 44 = .ok (.bipush 8, 2) := dk_16 8 (dk_at dksJ23_numberOfLeadingZeros_1 22 rfl rfl)
theorem dJ23_numberOfLeadingZeros_46 : decode cJ23_numberOfLeadingZeros 46 = .ok (.iushr, 1) := dk_124 (dk_at dksJ23_numberOfLeadingZeros_2 0 rfl rfl)
theorem dJ23_numberOfLeadingZeros_47 : decode cJ23_numberOfLeadingZeros 47 = .ok (.istore_n 0, 1) := dk_59 (dk_at dksJ23_numberOfLeadingZeros_2 1 rfl rfl)
theorem dJ23_numberOfLeadingZeros_48 : decode cJ23_numberOfLeadingZeros 48 = .ok (.iload_n 0, 1) := dk_26 (dk_at dksJ23_numberOfLeadingZeros_2 2 rfl rfl)
theorem dJ23_numberOfLeadingZeros_49 : decode cJ23_numberOfLeadingZeros 49 = .ok (.bipush 16, 2) := dk_16 16 (dk_at dksJ23_numberOfLeadingZeros_2 3 rfl rfl)
theorem dJ23_numberOfLeadingZeros_51 : decode cJ23_numberOfLeadingZeros 51 = .ok (.if_icmp .lt 10, 3) := dk_161 0 10 (dk_at dksJ23_numberOfLeadingZeros_2 5 rfl rfl)
theorem dJ23_numberOfLeadingZeros_54 : decode cJ23_numberOfLeadingZeros 54 = .ok (.iinc 1 (-4), 3) := dk_132 1 252 (dk_at dksJ23_numberOfLeadingZeros_2 8 rfl rfl)
theorem dJ23_numberOfLeadingZeros_57 : decode cJ23_numberOfLeadingZeros 57 = .ok (.iload_n 0, 1) := dk_26 (dk_at dksJ23_numberOfLeadingZeros_2 11 rfl rfl)
theorem dJ23_numberOfLeadingZeros_58 : decode cJ23_numberOfLeadingZeros 58 = .ok (.iconst 4, 1) := dk_7 (dk_at dksJ23_numberOfLeadingZeros_2 12 rfl rfl)
theorem dJ23_numberOfLeadingZeros_59 : decode cJ23_numberOfLeadingZeros 59 = .ok (.iushr, 1) := dk_124 (dk_at dksJ23_numberOfLeadingZeros_2 13 rfl rfl)
theorem dJ23_numberOfLeadingZeros_60 : decode cJ23_numberOfLeadingZeros 60 = .ok (.istore_n 0, 1) := dk_59 (dk_at dksJ23_numberOfLeadingZeros_2 14 rfl rfl)
theorem dJ23_numberOfLeadingZeros_61 : decode cJ23_numberOfLeadingZeros 61 = .ok (.iload_n 0, 1) := dk_26 (dk_at dksJ23_numberOfLeadingZeros_2 15 rfl rfl)
theorem dJ23_numberOfLeadingZeros_62 : decode cJ23_numberOfLeadingZeros 62 = .ok (.iconst 4, 1) := dk_7 (dk_at dksJ23_numberOfLeadingZeros_2 16 rfl rfl)
theorem dJ23_numberOfLeadingZeros_63 : decode cJ23_numberOfLeadingZeros 63 = .ok (.if_icmp .lt 10, 3) := dk_161 0 10 (dk_at dksJ23_numberOfLeadingZeros_2 17 rfl rfl)
theorem dJ23_numberOfLeadingZeros_66 : decode cJ23_numberOfLeadingZeros 66 = .ok (.iinc 1 (-2), 3) := dk_132 1 254 (dk_at dksJ23_numberOfLeadingZeros_2 20 rfl rfl)
theorem dJ23_numberOfLeadingZeros_69 : decode cJ23_numberOfLeadingZeros 69 = .ok (.iload_n 0, 1) := dk_26 (dk_at dksJ23_numberOfLeadingZeros_2 23 rfl rfl)
theorem dJ23_numberOfLeadingZeros_70 : decode cJ23_numberOfLeadingZeros 70 = .ok (.iconst 2, 1) := dk_5 (dk_at dksJ23_numberOfLeadingZeros_3 0 rfl rfl)
theorem dJ23_numberOfLeadingZeros_71 : decode cJ23_numberOfLeadingZeros 71 = .ok (.iushr, 1) := dk_124 (dk_at dksJ23_numberOfLeadingZeros_3 1 rfl rfl)
theorem dJ23_numberOfLeadingZeros_72 : decode cJ23_numberOfLeadingZeros 72 = .ok (.istore_n 0, 1) := dk_59 (dk_at dksJ23_numberOfLeadingZeros_3 2 rfl rfl)
theorem dJ23_numberOfLeadingZeros_73 : decode cJ23_numberOfLeadingZeros 73 = .ok (.iload_n 1, 1) := dk_27 (dk_at dksJ23_numberOfLeadingZeros_3 3 rfl rfl)
theorem dJ23_numberOfLeadingZeros_74 : decode cJ23_numberOfLeadingZeros 74 = .ok (.iload_n 0, 1) := dk_26 (dk_at dksJ23_numberOfLeadingZeros_3 4 rfl rfl)
theorem dJ23_numberOfLeadingZeros_75 : decode cJ23_numberOfLeadingZeros 75 = .ok (.iconst 1, 1) := dk_4 (dk_at dksJ23_numberOfLeadingZeros_3 5 rfl rfl)
theorem dJ23_numberOfLeadingZeros_76 : decode cJ23_numberOfLeadingZeros 76 = .ok (.iushr, 1) := dk_124 (dk_at dksJ23_numberOfLeadingZeros_3 6 rfl rfl)
theorem dJ23_numberOfLeadingZeros_77 : decode cJ23_numberOfLeadingZeros 77 = .ok (.isub, 1) := dk_100 (dk_at dksJ23_numberOfLeadingZeros_3 7 rfl rfl)
theorem dJ23_numberOfLeadingZeros_78 : decode cJ23_numberOfLeadingZeros 78 = .ok (.ireturn, 1) := dk_172 (dk_at dksJ23_numberOfLeadingZeros_3 8 rfl rfl)
abbrev cJ23_equals : ByteArray := prog_31_method_34_code
def yJ23_equals : MethodName := ⟨RJ23, "equals", "(Ljava/lang/Object;)Z"⟩
def dkwJ23_equals_1 : List UInt8 := [167, 0, 4, 3, 172, 3, 172]
abbrev dktJ23_equals_1 : List UInt8 := dkwJ23_equals_1 ++ []
def dkwJ23_equals_0 : List UInt8 := [43, 193, 0, 1, 153, 0, 23, 42, 180, 0, 205, 43, 192, 0, 1, 182, 0, 211, 160, 0, 7, 4]
abbrev dktJ23_equals_0 : List UInt8 := dkwJ23_equals_0 ++ dktJ23_equals_1
theorem dksJ23_equals_0 : cJ23_equals.data.toList.drop 0 = dktJ23_equals_0 := by decide +kernel
theorem dksJ23_equals_1 : cJ23_equals.data.toList.drop 22 = dktJ23_equals_1 := dk_seg dksJ23_equals_0 22 rfl rfl
theorem dJ23_equals_0 : decode cJ23_equals 0 = .ok (.aload_n 1, 1) := dk_43 (dk_at dksJ23_equals_0 0 rfl rfl)
theorem dJ23_equals_1 : decode cJ23_equals 1 = .ok (.instanceof 1, 3) := dk_193 0 1 (dk_at dksJ23_equals_0 1 rfl rfl)
theorem dJ23_equals_4 : decode cJ23_equals 4 = .ok (.ifCond .eq 23, 3) := dk_153 0 23 (dk_at dksJ23_equals_0 4 rfl rfl)
theorem dJ23_equals_7 : decode cJ23_equals 7 = .ok (.aload_n 0, 1) := dk_42 (dk_at dksJ23_equals_0 7 rfl rfl)
theorem dJ23_equals_8 : decode cJ23_equals 8 = .ok (.getfield 205, 3) := dk_180 0 205 (dk_at dksJ23_equals_0 8 rfl rfl)
theorem dJ23_equals_11 : decode cJ23_equals 11 = .ok (.aload_n 1, 1) := dk_43 (dk_at dksJ23_equals_0 11 rfl rfl)
theorem dJ23_equals_12 : decode cJ23_equals 12 = .ok (.checkcast 1, 3) := dk_192 0 1 (dk_at dksJ23_equals_0 12 rfl rfl)
theorem dJ23_equals_15 : decode cJ23_equals 15 = .ok (.invokevirtual 211, 3) := dk_182 0 211 (dk_at dksJ23_equals_0 15 rfl rfl)
theorem dJ23_equals_18 : decode cJ23_equals 18 = .ok (.if_icmp .ne 7, 3) := dk_160 0 7 (dk_at dksJ23_equals_0 18 rfl rfl)
theorem dJ23_equals_21 : decode cJ23_equals 21 = .ok (.iconst 1, 1) := dk_4 (dk_at dksJ23_equals_0 21 rfl rfl)
theorem dJ23_equals_22 : decode cJ23_equals 22 = .ok (.goto 4, 3) := dk_167 0 4 (dk_at dksJ23_equals_1 0 rfl rfl)
theorem dJ23_equals_25 : decode cJ23_equals 25 = .ok (.iconst 0, 1) := dk_3 (dk_at dksJ23_equals_1 3 rfl rfl)
theorem dJ23_equals_26 : decode cJ23_equals 26 = .ok (.ireturn, 1) := dk_172 (dk_at dksJ23_equals_1 4 rfl rfl)
theorem dJ23_equals_27 : decode cJ23_equals 27 = .ok (.iconst 0, 1) := dk_3 (dk_at dksJ23_equals_1 5 rfl rfl)
theorem dJ23_equals_28 : decode cJ23_equals 28 = .ok (.ireturn, 1) := dk_172 (dk_at dksJ23_equals_1 6 rfl rfl)
abbrev cJ23_intValue : ByteArray := prog_31_method_27_code
def yJ23_intValue : MethodName := ⟨RJ23, "intValue", "()I"⟩
theorem dJ23_intValue_0 : decode cJ23_intValue 0 = .ok (.aload_n 0, 1) := by decide +kernel
theorem dJ23_intValue_1 : decode cJ23_intValue 1 = .ok (.getfield 205, 3) := by decide +kernel
theorem dJ23_intValue_4 : decode cJ23_intValue 4 = .ok (.ireturn, 1) := by decide +kernel
abbrev cJ23_valueOf : ByteArray := prog_31_method_22_code
def yJ23_valueOf : MethodName := ⟨RJ23, "valueOf", "(I)Ljava/lang/Integer;"⟩
def dkwJ23_valueOf_1 : List UInt8 := [187, 0, 1, 89, 26, 183, 0, 199, 176]
abbrev dktJ23_valueOf_1 : List UInt8 := dkwJ23_valueOf_1 ++ []
def dkwJ23_valueOf_0 : List UInt8 := [26, 16, 128, 161, 0, 20, 26, 178, 0, 191, 163, 0, 13, 178, 0, 195, 26, 17, 0, 128, 96, 50, 176]
abbrev dktJ23_valueOf_0 : List UInt8 := dkwJ23_valueOf_0 ++ dktJ23_valueOf_1
theorem dksJ23_valueOf_0 : cJ23_valueOf.data.toList.drop 0 = dktJ23_valueOf_0 := by decide +kernel
theorem dksJ23_valueOf_1 : cJ23_valueOf.data.toList.drop 23 = dktJ23_valueOf_1 := dk_seg dksJ23_valueOf_0 23 rfl rfl
theorem dJ23_valueOf_0 : decode cJ23_valueOf 0 = .ok (.iload_n 0, 1) := dk_26 (dk_at dksJ23_valueOf_0 0 rfl rfl)
theorem dJ23_valueOf_1 : decode cJ23_valueOf 1 = .ok (.bipush (-128), 2) := dk_16 128 (dk_at dksJ23_valueOf_0 1 rfl rfl)
theorem dJ23_valueOf_3 : decode cJ23_valueOf 3 = .ok (.if_icmp .lt 20, 3) := dk_161 0 20 (dk_at dksJ23_valueOf_0 3 rfl rfl)
theorem dJ23_valueOf_6 : decode cJ23_valueOf 6 = .ok (.iload_n 0, 1) := dk_26 (dk_at dksJ23_valueOf_0 6 rfl rfl)
theorem dJ23_valueOf_7 : decode cJ23_valueOf 7 = .ok (.getstatic 191, 3) := dk_178 0 191 (dk_at dksJ23_valueOf_0 7 rfl rfl)
theorem dJ23_valueOf_10 : decode cJ23_valueOf 10 = .ok (.if_icmp .gt 13, 3) := dk_163 0 13 (dk_at dksJ23_valueOf_0 10 rfl rfl)
theorem dJ23_valueOf_13 : decode cJ23_valueOf 13 = .ok (.getstatic 195, 3) := dk_178 0 195 (dk_at dksJ23_valueOf_0 13 rfl rfl)
theorem dJ23_valueOf_16 : decode cJ23_valueOf 16 = .ok (.iload_n 0, 1) := dk_26 (dk_at dksJ23_valueOf_0 16 rfl rfl)
theorem dJ23_valueOf_17 : decode cJ23_valueOf 17 = .ok (.sipush 128, 3) := dk_17 0 128 (dk_at dksJ23_valueOf_0 17 rfl rfl)
theorem dJ23_valueOf_20 : decode cJ23_valueOf 20 = .ok (.iadd, 1) := dk_96 (dk_at dksJ23_valueOf_0 20 rfl rfl)
theorem dJ23_valueOf_21 : decode cJ23_valueOf 21 = .ok (.aaload, 1) := dk_50 (dk_at dksJ23_valueOf_0 21 rfl rfl)
theorem dJ23_valueOf_22 : decode cJ23_valueOf 22 = .ok (.areturn, 1) := dk_176 (dk_at dksJ23_valueOf_0 22 rfl rfl)
theorem dJ23_valueOf_23 : decode cJ23_valueOf 23 = .ok (.new 1, 3) := dk_187 0 1 (dk_at dksJ23_valueOf_1 0 rfl rfl)
theorem dJ23_valueOf_26 : decode cJ23_valueOf 26 = .ok (.dup, 1) := dk_89 (dk_at dksJ23_valueOf_1 3 rfl rfl)
theorem dJ23_valueOf_27 : decode cJ23_valueOf 27 = .ok (.iload_n 0, 1) := dk_26 (dk_at dksJ23_valueOf_1 4 rfl rfl)
theorem dJ23_valueOf_28 : decode cJ23_valueOf 28 = .ok (.invokespecial 199, 3) := dk_183 0 199 (dk_at dksJ23_valueOf_1 5 rfl rfl)
theorem dJ23_valueOf_31 : decode cJ23_valueOf 31 = .ok (.areturn, 1) := dk_176 (dk_at dksJ23_valueOf_1 8 rfl rfl)
theorem q105 : (Jvm.Cond.initialized "java/lang/Integer") ∈ lw_all := lw_g (lw_at lw_m1 32 rfl) rfl
theorem q670 : (Jvm.Cond.static ({ cls := "java/lang/Integer", name := "stringSize", desc := "(I)I" } : Jvm.MethodName)) ∈ lw_all := lw_g (lw_at lw_m3 117 rfl) rfl
theorem q671 : (Jvm.Cond.code ({ cls := "java/lang/Integer", name := "stringSize", desc := "(I)I" } : Jvm.MethodName) prog_31_method_13_code (4 : Nat) (Option.some Jvm.ClassFile.FieldType.int)) ∈ lw_all := lw_g (lw_at lw_m3 118 rfl) rfl
theorem q673 : (Jvm.Cond.static ({ cls := "java/lang/Integer", name := "getChars", desc := "(II[B)I" } : Jvm.MethodName)) ∈ lw_all := lw_g (lw_at lw_m3 120 rfl) rfl
theorem q674 : (Jvm.Cond.code ({ cls := "java/lang/Integer", name := "getChars", desc := "(II[B)I" } : Jvm.MethodName) prog_31_method_12_code (7 : Nat) (Option.some Jvm.ClassFile.FieldType.int)) ∈ lw_all := lw_g (lw_at lw_m3 121 rfl) rfl
theorem q675 : (Jvm.Cond.fieldLink "java/lang/Integer" (83 : Nat) "java/lang/Integer" "DigitOnes" "[B") ∈ lw_all := lw_g (lw_at lw_m3 122 rfl) rfl
theorem q677 : (Jvm.Cond.fieldLink "java/lang/Integer" (87 : Nat) "java/lang/Integer" "DigitTens" "[B") ∈ lw_all := lw_g (lw_at lw_m3 124 rfl) rfl
theorem q1151 : (Jvm.Cond.static ({ cls := "java/lang/Integer", name := "numberOfLeadingZeros", desc := "(I)I" } : Jvm.MethodName)) ∈ lw_all := lw_g (lw_at lw_m5 118 rfl) rfl
theorem q1152 : (Jvm.Cond.code ({ cls := "java/lang/Integer", name := "numberOfLeadingZeros", desc := "(I)I" } : Jvm.MethodName) prog_31_method_47_code (2 : Nat) (Option.some Jvm.ClassFile.FieldType.int)) ∈ lw_all := lw_g (lw_at lw_m5 119 rfl) rfl
theorem q1153 : (Jvm.Cond.constant "java/lang/Integer" (264 : Nat) (65536 : Int32)) ∈ lw_all := lw_g (lw_at lw_m5 120 rfl) rfl
theorem q1230 : (Jvm.Cond.classLink "java/lang/Integer" (1 : Nat) "java/lang/Integer") ∈ lw_all := lw_g (lw_at lw_m5 197 rfl) rfl
theorem q1619 : (Jvm.Cond.selects "java/lang/Integer" ({ cls := "java/lang/Object", name := "equals", desc := "(Ljava/lang/Object;)Z" } : Jvm.MethodName) ({ cls := "java/lang/Integer", name := "equals", desc := "(Ljava/lang/Object;)Z" } : Jvm.MethodName)) ∈ lw_all := lw_g (lw_at lw_m7 106 rfl) rfl
theorem q1620 : (Jvm.Cond.instanceMethod ({ cls := "java/lang/Integer", name := "equals", desc := "(Ljava/lang/Object;)Z" } : Jvm.MethodName)) ∈ lw_all := lw_g (lw_at lw_m7 107 rfl) rfl
theorem q1621 : (Jvm.Cond.code ({ cls := "java/lang/Integer", name := "equals", desc := "(Ljava/lang/Object;)Z" } : Jvm.MethodName) prog_31_method_34_code (2 : Nat) (Option.some Jvm.ClassFile.FieldType.boolean)) ∈ lw_all := lw_g (lw_at lw_m7 108 rfl) rfl
theorem q1622 : (Jvm.Cond.methodLink "java/lang/Integer" (211 : Nat) ({ cls := "java/lang/Integer", name := "intValue", desc := "()I" } : Jvm.MethodName)) ∈ lw_all := lw_g (lw_at lw_m7 109 rfl) rfl
theorem q1623 : (Jvm.Cond.instanceMethod ({ cls := "java/lang/Integer", name := "intValue", desc := "()I" } : Jvm.MethodName)) ∈ lw_all := lw_g (lw_at lw_m7 110 rfl) rfl
theorem q1624 : (Jvm.Cond.selects "java/lang/Integer" ({ cls := "java/lang/Integer", name := "intValue", desc := "()I" } : Jvm.MethodName) ({ cls := "java/lang/Integer", name := "intValue", desc := "()I" } : Jvm.MethodName)) ∈ lw_all := lw_g (lw_at lw_m7 111 rfl) rfl
theorem q1625 : (Jvm.Cond.code ({ cls := "java/lang/Integer", name := "intValue", desc := "()I" } : Jvm.MethodName) prog_31_method_27_code (1 : Nat) (Option.some Jvm.ClassFile.FieldType.int)) ∈ lw_all := lw_g (lw_at lw_m7 112 rfl) rfl
theorem q1917 : (Jvm.Cond.static ({ cls := "java/lang/Integer", name := "valueOf", desc := "(I)Ljava/lang/Integer;" } : Jvm.MethodName)) ∈ lw_all := lw_g (lw_at lw_m8 164 rfl) rfl
theorem q1918 : (Jvm.Cond.code ({ cls := "java/lang/Integer", name := "valueOf", desc := "(I)Ljava/lang/Integer;" } : Jvm.MethodName) prog_31_method_22_code (1 : Nat) (Option.some (Jvm.ClassFile.FieldType.object "java/lang/Integer"))) ∈ lw_all := lw_g (lw_at lw_m8 165 rfl) rfl
theorem q1919 : (Jvm.Cond.fieldLink "java/lang/Integer" (191 : Nat) "java/lang/Integer$IntegerCache" "high" "I") ∈ lw_all := lw_g (lw_at lw_m8 166 rfl) rfl
theorem q1921 : (Jvm.Cond.fieldLink "java/lang/Integer" (195 : Nat) "java/lang/Integer$IntegerCache" "cache" "[Ljava/lang/Integer;") ∈ lw_all := lw_g (lw_at lw_m8 168 rfl) rfl
theorem q1923 : (Jvm.Cond.instantiable "java/lang/Integer" (1 : Nat)) ∈ lw_all := lw_g (lw_at lw_m8 170 rfl) rfl
theorem q1931 : (Jvm.Cond.fieldLink "java/lang/Integer" (205 : Nat) "java/lang/Integer" "value" "I") ∈ lw_all := lw_g (lw_at lw_m8 178 rfl) rfl
theorem q3523 : (Jvm.Cond.castable "java/lang/Integer" "java/lang/Object") ∈ lw_tbl := lw_at lw_m15 90 rfl
/-! java/lang/IllegalArgumentException -/
def RJ24 : String := "java/lang/IllegalArgumentException"
abbrev cJ24_init_2 : ByteArray := prog_28_method_1_code
def yJ24_init_2 : MethodName := ⟨RJ24, "<init>", "()V"⟩
theorem dJ24_init_2_0 : decode cJ24_init_2 0 = .ok (.aload_n 0, 1) := by decide +kernel
theorem dJ24_init_2_1 : decode cJ24_init_2 1 = .ok (.invokespecial 1, 3) := by decide +kernel
theorem dJ24_init_2_4 : decode cJ24_init_2 4 = .ok (.return_, 1) := by decide +kernel
theorem q106 : (Jvm.Cond.initialized "java/lang/IllegalArgumentException") ∈ lw_all := lw_g (lw_at lw_m1 33 rfl) rfl
theorem q734 : (Jvm.Cond.instantiable "java/lang/IllegalArgumentException" (6 : Nat)) ∈ lw_all := lw_g (lw_at lw_m3 181 rfl) rfl
theorem q1883 : (Jvm.Cond.instanceMethod ({ cls := "java/lang/IllegalArgumentException", name := "<init>", desc := "()V" } : Jvm.MethodName)) ∈ lw_all := lw_g (lw_at lw_m8 130 rfl) rfl
theorem q1884 : (Jvm.Cond.code ({ cls := "java/lang/IllegalArgumentException", name := "<init>", desc := "()V" } : Jvm.MethodName) prog_28_method_1_code (1 : Nat) (Option.none : Option Jvm.ClassFile.FieldType)) ∈ lw_all := lw_g (lw_at lw_m8 131 rfl) rfl
theorem q1885 : (Jvm.Cond.methodLink "java/lang/IllegalArgumentException" (1 : Nat) ({ cls := "java/lang/RuntimeException", name := "<init>", desc := "()V" } : Jvm.MethodName)) ∈ lw_all := lw_g (lw_at lw_m8 132 rfl) rfl
theorem q3522 : (Jvm.Cond.castable "java/lang/IllegalArgumentException" "java/lang/Object") ∈ lw_tbl := lw_at lw_m15 89 rfl
/-! JumpHall$Jumper -/
def RX8 : String := "JumpHall$Jumper"
abbrev cX8_copy : ByteArray := prog_7_method_2_code
def yX8_copy : MethodName := ⟨RX8, "copy", "()LJumpHall$Jumper;"⟩
def dkwX8_copy_2 : List UInt8 := [43, 42, 180, 0, 36, 181, 0, 36, 43, 176]
abbrev dktX8_copy_2 : List UInt8 := dkwX8_copy_2 ++ []
def dkwX8_copy_1 : List UInt8 := [43, 42, 180, 0, 33, 181, 0, 33, 43, 42, 180, 0, 9, 181, 0, 9, 43, 42, 180, 0, 15, 181, 0, 15]
abbrev dktX8_copy_1 : List UInt8 := dkwX8_copy_1 ++ dktX8_copy_2
def dkwX8_copy_0 : List UInt8 := [187, 0, 10, 89, 42, 180, 0, 18, 42, 180, 0, 21, 42, 180, 0, 24, 42, 180, 0, 27, 183, 0, 30, 76]
abbrev dktX8_copy_0 : List UInt8 := dkwX8_copy_0 ++ dktX8_copy_1
theorem dksX8_copy_0 : cX8_copy.data.toList.drop 0 = dktX8_copy_0 := by decide +kernel
theorem dksX8_copy_1 : cX8_copy.data.toList.drop 24 = dktX8_copy_1 := dk_seg dksX8_copy_0 24 rfl rfl
theorem dksX8_copy_2 : cX8_copy.data.toList.drop 48 = dktX8_copy_2 := dk_seg dksX8_copy_1 24 rfl rfl
theorem dX8_copy_0 : decode cX8_copy 0 = .ok (.new 10, 3) := dk_187 0 10 (dk_at dksX8_copy_0 0 rfl rfl)
theorem dX8_copy_3 : decode cX8_copy 3 = .ok (.dup, 1) := dk_89 (dk_at dksX8_copy_0 3 rfl rfl)
theorem dX8_copy_4 : decode cX8_copy 4 = .ok (.aload_n 0, 1) := dk_42 (dk_at dksX8_copy_0 4 rfl rfl)
theorem dX8_copy_5 : decode cX8_copy 5 = .ok (.getfield 18, 3) := dk_180 0 18 (dk_at dksX8_copy_0 5 rfl rfl)
theorem dX8_copy_8 : decode cX8_copy 8 = .ok (.aload_n 0, 1) := dk_42 (dk_at dksX8_copy_0 8 rfl rfl)
theorem dX8_copy_9 : decode cX8_copy 9 = .ok (.getfield 21, 3) := dk_180 0 21 (dk_at dksX8_copy_0 9 rfl rfl)
theorem dX8_copy_12 : decode cX8_copy 12 = .ok (.aload_n 0, 1) := dk_42 (dk_at dksX8_copy_0 12 rfl rfl)
theorem dX8_copy_13 : decode cX8_copy 13 = .ok (.getfield 24, 3) := dk_180 0 24 (dk_at dksX8_copy_0 13 rfl rfl)
theorem dX8_copy_16 : decode cX8_copy 16 = .ok (.aload_n 0, 1) := dk_42 (dk_at dksX8_copy_0 16 rfl rfl)
theorem dX8_copy_17 : decode cX8_copy 17 = .ok (.getfield 27, 3) := dk_180 0 27 (dk_at dksX8_copy_0 17 rfl rfl)
theorem dX8_copy_20 : decode cX8_copy 20 = .ok (.invokespecial 30, 3) := dk_183 0 30 (dk_at dksX8_copy_0 20 rfl rfl)
theorem dX8_copy_23 : decode cX8_copy 23 = .ok (.astore_n 1, 1) := dk_76 (dk_at dksX8_copy_0 23 rfl rfl)
theorem dX8_copy_24 : decode cX8_copy 24 = .ok (.aload_n 1, 1) := dk_43 (dk_at dksX8_copy_1 0 rfl rfl)
theorem dX8_copy_25 : decode cX8_copy 25 = .ok (.aload_n 0, 1) := dk_42 (dk_at dksX8_copy_1 1 rfl rfl)
theorem dX8_copy_26 : decode cX8_copy 26 = .ok (.getfield 33, 3) := dk_180 0 33 (dk_at dksX8_copy_1 2 rfl rfl)
theorem dX8_copy_29 : decode cX8_copy 29 = .ok (.putfield 33, 3) := dk_181 0 33 (dk_at dksX8_copy_1 5 rfl rfl)
theorem dX8_copy_32 : decode cX8_copy 32 = .ok (.aload_n 1, 1) := dk_43 (dk_at dksX8_copy_1 8 rfl rfl)
theorem dX8_copy_33 : decode cX8_copy 33 = .ok (.aload_n 0, 1) := dk_42 (dk_at dksX8_copy_1 9 rfl rfl)
theorem dX8_copy_34 : decode cX8_copy 34 = .ok (.getfield 9, 3) := dk_180 0 9 (dk_at dksX8_copy_1 10 rfl rfl)
theorem dX8_copy_37 : decode cX8_copy 37 = .ok (.putfield 9, 3) := dk_181 0 9 (dk_at dksX8_copy_1 13 rfl rfl)
theorem dX8_copy_40 : decode cX8_copy 40 = .ok (.aload_n 1, 1) := dk_43 (dk_at dksX8_copy_1 16 rfl rfl)
theorem dX8_copy_41 : decode cX8_copy 41 = .ok (.aload_n 0, 1) := dk_42 (dk_at dksX8_copy_1 17 rfl rfl)
theorem dX8_copy_42 : decode cX8_copy 42 = .ok (.getfield 15, 3) := dk_180 0 15 (dk_at dksX8_copy_1 18 rfl rfl)
theorem dX8_copy_45 : decode cX8_copy 45 = .ok (.putfield 15, 3) := dk_181 0 15 (dk_at dksX8_copy_1 21 rfl rfl)
theorem dX8_copy_48 : decode cX8_copy 48 = .ok (.aload_n 1, 1) := dk_43 (dk_at dksX8_copy_2 0 rfl rfl)
theorem dX8_copy_49 : decode cX8_copy 49 = .ok (.aload_n 0, 1) := dk_42 (dk_at dksX8_copy_2 1 rfl rfl)
theorem dX8_copy_50 : decode cX8_copy 50 = .ok (.getfield 36, 3) := dk_180 0 36 (dk_at dksX8_copy_2 2 rfl rfl)
theorem dX8_copy_53 : decode cX8_copy 53 = .ok (.putfield 36, 3) := dk_181 0 36 (dk_at dksX8_copy_2 5 rfl rfl)
theorem dX8_copy_56 : decode cX8_copy 56 = .ok (.aload_n 1, 1) := dk_43 (dk_at dksX8_copy_2 8 rfl rfl)
theorem dX8_copy_57 : decode cX8_copy 57 = .ok (.areturn, 1) := dk_176 (dk_at dksX8_copy_2 9 rfl rfl)
abbrev cX8_init : ByteArray := prog_7_method_1_code
def yX8_init : MethodName := ⟨RX8, "<init>", "(IIII)V"⟩
def dkwX8_init_1 : List UInt8 := [42, 29, 181, 0, 24, 42, 21, 4, 181, 0, 27, 177]
abbrev dktX8_init_1 : List UInt8 := dkwX8_init_1 ++ []
def dkwX8_init_0 : List UInt8 := [42, 183, 0, 3, 42, 2, 181, 0, 9, 42, 2, 181, 0, 15, 42, 27, 181, 0, 18, 42, 28, 181, 0, 21]
abbrev dktX8_init_0 : List UInt8 := dkwX8_init_0 ++ dktX8_init_1
theorem dksX8_init_0 : cX8_init.data.toList.drop 0 = dktX8_init_0 := by decide +kernel
theorem dksX8_init_1 : cX8_init.data.toList.drop 24 = dktX8_init_1 := dk_seg dksX8_init_0 24 rfl rfl
theorem dX8_init_0 : decode cX8_init 0 = .ok (.aload_n 0, 1) := dk_42 (dk_at dksX8_init_0 0 rfl rfl)
theorem dX8_init_1 : decode cX8_init 1 = .ok (.invokespecial 3, 3) := dk_183 0 3 (dk_at dksX8_init_0 1 rfl rfl)
theorem dX8_init_4 : decode cX8_init 4 = .ok (.aload_n 0, 1) := dk_42 (dk_at dksX8_init_0 4 rfl rfl)
theorem dX8_init_5 : decode cX8_init 5 = .ok (.iconst (-1), 1) := dk_2 (dk_at dksX8_init_0 5 rfl rfl)
theorem dX8_init_6 : decode cX8_init 6 = .ok (.putfield 9, 3) := dk_181 0 9 (dk_at dksX8_init_0 6 rfl rfl)
theorem dX8_init_9 : decode cX8_init 9 = .ok (.aload_n 0, 1) := dk_42 (dk_at dksX8_init_0 9 rfl rfl)
theorem dX8_init_10 : decode cX8_init 10 = .ok (.iconst (-1), 1) := dk_2 (dk_at dksX8_init_0 10 rfl rfl)
theorem dX8_init_11 : decode cX8_init 11 = .ok (.putfield 15, 3) := dk_181 0 15 (dk_at dksX8_init_0 11 rfl rfl)
theorem dX8_init_14 : decode cX8_init 14 = .ok (.aload_n 0, 1) := dk_42 (dk_at dksX8_init_0 14 rfl rfl)
theorem dX8_init_15 : decode cX8_init 15 = .ok (.iload_n 1, 1) := dk_27 (dk_at dksX8_init_0 15 rfl rfl)
theorem dX8_init_16 : decode cX8_init 16 = .ok (.putfield 18, 3) := dk_181 0 18 (dk_at dksX8_init_0 16 rfl rfl)
theorem dX8_init_19 : decode cX8_init 19 = .ok (.aload_n 0, 1) := dk_42 (dk_at dksX8_init_0 19 rfl rfl)
theorem dX8_init_20 : decode cX8_init 20 = .ok (.iload_n 2, 1) := dk_28 (dk_at dksX8_init_0 20 rfl rfl)
theorem dX8_init_21 : decode cX8_init 21 = .ok (.putfield 21, 3) := dk_181 0 21 (dk_at dksX8_init_0 21 rfl rfl)
theorem dX8_init_24 : decode cX8_init 24 = .ok (.aload_n 0, 1) := dk_42 (dk_at dksX8_init_1 0 rfl rfl)
theorem dX8_init_25 : decode cX8_init 25 = .ok (.iload_n 3, 1) := dk_29 (dk_at dksX8_init_1 1 rfl rfl)
theorem dX8_init_26 : decode cX8_init 26 = .ok (.putfield 24, 3) := dk_181 0 24 (dk_at dksX8_init_1 2 rfl rfl)
theorem dX8_init_29 : decode cX8_init 29 = .ok (.aload_n 0, 1) := dk_42 (dk_at dksX8_init_1 5 rfl rfl)
theorem dX8_init_30 : decode cX8_init 30 = .ok (.iload 4, 2) := dk_21 4 (dk_at dksX8_init_1 6 rfl rfl)
theorem dX8_init_32 : decode cX8_init 32 = .ok (.putfield 27, 3) := dk_181 0 27 (dk_at dksX8_init_1 8 rfl rfl)
theorem dX8_init_35 : decode cX8_init 35 = .ok (.return_, 1) := dk_177 (dk_at dksX8_init_1 11 rfl rfl)
abbrev cX8_isOn : ByteArray := prog_7_method_3_code
def yX8_isOn : MethodName := ⟨RX8, "isOn", "(I)Z"⟩
def dkwX8_isOn_0 : List UInt8 := [42, 180, 0, 9, 27, 160, 0, 7, 4, 167, 0, 4, 3, 172]
abbrev dktX8_isOn_0 : List UInt8 := dkwX8_isOn_0 ++ []
theorem dksX8_isOn_0 : cX8_isOn.data.toList.drop 0 = dktX8_isOn_0 := by decide +kernel
theorem dX8_isOn_0 : decode cX8_isOn 0 = .ok (.aload_n 0, 1) := dk_42 (dk_at dksX8_isOn_0 0 rfl rfl)
theorem dX8_isOn_1 : decode cX8_isOn 1 = .ok (.getfield 9, 3) := dk_180 0 9 (dk_at dksX8_isOn_0 1 rfl rfl)
theorem dX8_isOn_4 : decode cX8_isOn 4 = .ok (.iload_n 1, 1) := dk_27 (dk_at dksX8_isOn_0 4 rfl rfl)
theorem dX8_isOn_5 : decode cX8_isOn 5 = .ok (.if_icmp .ne 7, 3) := dk_160 0 7 (dk_at dksX8_isOn_0 5 rfl rfl)
theorem dX8_isOn_8 : decode cX8_isOn 8 = .ok (.iconst 1, 1) := dk_4 (dk_at dksX8_isOn_0 8 rfl rfl)
theorem dX8_isOn_9 : decode cX8_isOn 9 = .ok (.goto 4, 3) := dk_167 0 4 (dk_at dksX8_isOn_0 9 rfl rfl)
theorem dX8_isOn_12 : decode cX8_isOn 12 = .ok (.iconst 0, 1) := dk_3 (dk_at dksX8_isOn_0 12 rfl rfl)
theorem dX8_isOn_13 : decode cX8_isOn 13 = .ok (.ireturn, 1) := dk_172 (dk_at dksX8_isOn_0 13 rfl rfl)
abbrev cX8_hasSocks : ByteArray := prog_7_method_5_code
def yX8_hasSocks : MethodName := ⟨RX8, "hasSocks", "()Z"⟩
def dkwX8_hasSocks_0 : List UInt8 := [42, 180, 0, 15, 2, 159, 0, 7, 4, 167, 0, 4, 3, 172]
abbrev dktX8_hasSocks_0 : List UInt8 := dkwX8_hasSocks_0 ++ []
theorem dksX8_hasSocks_0 : cX8_hasSocks.data.toList.drop 0 = dktX8_hasSocks_0 := by decide +kernel
theorem dX8_hasSocks_0 : decode cX8_hasSocks 0 = .ok (.aload_n 0, 1) := dk_42 (dk_at dksX8_hasSocks_0 0 rfl rfl)
theorem dX8_hasSocks_1 : decode cX8_hasSocks 1 = .ok (.getfield 15, 3) := dk_180 0 15 (dk_at dksX8_hasSocks_0 1 rfl rfl)
theorem dX8_hasSocks_4 : decode cX8_hasSocks 4 = .ok (.iconst (-1), 1) := dk_2 (dk_at dksX8_hasSocks_0 4 rfl rfl)
theorem dX8_hasSocks_5 : decode cX8_hasSocks 5 = .ok (.if_icmp .eq 7, 3) := dk_159 0 7 (dk_at dksX8_hasSocks_0 5 rfl rfl)
theorem dX8_hasSocks_8 : decode cX8_hasSocks 8 = .ok (.iconst 1, 1) := dk_4 (dk_at dksX8_hasSocks_0 8 rfl rfl)
theorem dX8_hasSocks_9 : decode cX8_hasSocks 9 = .ok (.goto 4, 3) := dk_167 0 4 (dk_at dksX8_hasSocks_0 9 rfl rfl)
theorem dX8_hasSocks_12 : decode cX8_hasSocks 12 = .ok (.iconst 0, 1) := dk_3 (dk_at dksX8_hasSocks_0 12 rfl rfl)
theorem dX8_hasSocks_13 : decode cX8_hasSocks 13 = .ok (.ireturn, 1) := dk_172 (dk_at dksX8_hasSocks_0 13 rfl rfl)
abbrev cX8_isLight : ByteArray := prog_7_method_6_code
def yX8_isLight : MethodName := ⟨RX8, "isLight", "()Z"⟩
def dkwX8_isLight_0 : List UInt8 := [42, 180, 0, 21, 16, 25, 162, 0, 7, 4, 167, 0, 4, 3, 172]
abbrev dktX8_isLight_0 : List UInt8 := dkwX8_isLight_0 ++ []
theorem dksX8_isLight_0 : cX8_isLight.data.toList.drop 0 = dktX8_isLight_0 := by decide +kernel
theorem dX8_isLight_0 : decode cX8_isLight 0 = .ok (.aload_n 0, 1) := dk_42 (dk_at dksX8_isLight_0 0 rfl rfl)
theorem dX8_isLight_1 : decode cX8_isLight 1 = .ok (.getfield 21, 3) := dk_180 0 21 (dk_at dksX8_isLight_0 1 rfl rfl)
theorem dX8_isLight_4 : decode cX8_isLight 4 = .ok (.bipush 25, 2) := dk_16 25 (dk_at dksX8_isLight_0 4 rfl rfl)
theorem dX8_isLight_6 : decode cX8_isLight 6 = .ok (.if_icmp .ge 7, 3) := dk_162 0 7 (dk_at dksX8_isLight_0 6 rfl rfl)
theorem dX8_isLight_9 : decode cX8_isLight 9 = .ok (.iconst 1, 1) := dk_4 (dk_at dksX8_isLight_0 9 rfl rfl)
theorem dX8_isLight_10 : decode cX8_isLight 10 = .ok (.goto 4, 3) := dk_167 0 4 (dk_at dksX8_isLight_0 10 rfl rfl)
theorem dX8_isLight_13 : decode cX8_isLight 13 = .ok (.iconst 0, 1) := dk_3 (dk_at dksX8_isLight_0 13 rfl rfl)
theorem dX8_isLight_14 : decode cX8_isLight 14 = .ok (.ireturn, 1) := dk_172 (dk_at dksX8_isLight_0 14 rfl rfl)
abbrev cX8_waits : ByteArray := prog_7_method_7_code
def yX8_waits : MethodName := ⟨RX8, "waits", "()V"⟩
def dkwX8_waits_0 : List UInt8 := [42, 3, 181, 0, 33, 42, 2, 181, 0, 9, 177]
abbrev dktX8_waits_0 : List UInt8 := dkwX8_waits_0 ++ []
theorem dksX8_waits_0 : cX8_waits.data.toList.drop 0 = dktX8_waits_0 := by decide +kernel
theorem dX8_waits_0 : decode cX8_waits 0 = .ok (.aload_n 0, 1) := dk_42 (dk_at dksX8_waits_0 0 rfl rfl)
theorem dX8_waits_1 : decode cX8_waits 1 = .ok (.iconst 0, 1) := dk_3 (dk_at dksX8_waits_0 1 rfl rfl)
theorem dX8_waits_2 : decode cX8_waits 2 = .ok (.putfield 33, 3) := dk_181 0 33 (dk_at dksX8_waits_0 2 rfl rfl)
theorem dX8_waits_5 : decode cX8_waits 5 = .ok (.aload_n 0, 1) := dk_42 (dk_at dksX8_waits_0 5 rfl rfl)
theorem dX8_waits_6 : decode cX8_waits 6 = .ok (.iconst (-1), 1) := dk_2 (dk_at dksX8_waits_0 6 rfl rfl)
theorem dX8_waits_7 : decode cX8_waits 7 = .ok (.putfield 9, 3) := dk_181 0 9 (dk_at dksX8_waits_0 7 rfl rfl)
theorem dX8_waits_10 : decode cX8_waits 10 = .ok (.return_, 1) := dk_177 (dk_at dksX8_waits_0 10 rfl rfl)
abbrev cX8_isGone : ByteArray := prog_7_method_4_code
def yX8_isGone : MethodName := ⟨RX8, "isGone", "()Z"⟩
def dkwX8_isGone_0 : List UInt8 := [42, 180, 0, 33, 5, 160, 0, 7, 4, 167, 0, 4, 3, 172]
abbrev dktX8_isGone_0 : List UInt8 := dkwX8_isGone_0 ++ []
theorem dksX8_isGone_0 : cX8_isGone.data.toList.drop 0 = dktX8_isGone_0 := by decide +kernel
theorem dX8_isGone_0 : decode cX8_isGone 0 = .ok (.aload_n 0, 1) := dk_42 (dk_at dksX8_isGone_0 0 rfl rfl)
theorem dX8_isGone_1 : decode cX8_isGone 1 = .ok (.getfield 33, 3) := dk_180 0 33 (dk_at dksX8_isGone_0 1 rfl rfl)
theorem dX8_isGone_4 : decode cX8_isGone 4 = .ok (.iconst 2, 1) := dk_5 (dk_at dksX8_isGone_0 4 rfl rfl)
theorem dX8_isGone_5 : decode cX8_isGone 5 = .ok (.if_icmp .ne 7, 3) := dk_160 0 7 (dk_at dksX8_isGone_0 5 rfl rfl)
theorem dX8_isGone_8 : decode cX8_isGone 8 = .ok (.iconst 1, 1) := dk_4 (dk_at dksX8_isGone_0 8 rfl rfl)
theorem dX8_isGone_9 : decode cX8_isGone 9 = .ok (.goto 4, 3) := dk_167 0 4 (dk_at dksX8_isGone_0 9 rfl rfl)
theorem dX8_isGone_12 : decode cX8_isGone 12 = .ok (.iconst 0, 1) := dk_3 (dk_at dksX8_isGone_0 12 rfl rfl)
theorem dX8_isGone_13 : decode cX8_isGone 13 = .ok (.ireturn, 1) := dk_172 (dk_at dksX8_isGone_0 13 rfl rfl)
theorem q107 : (Jvm.Cond.initialized "JumpHall$Jumper") ∈ lw_all := lw_g (lw_at lw_m1 34 rfl) rfl
theorem q901 : (Jvm.Cond.instanceMethod ({ cls := "JumpHall$Jumper", name := "copy", desc := "()LJumpHall$Jumper;" } : Jvm.MethodName)) ∈ lw_all := lw_g (lw_at lw_m4 108 rfl) rfl
theorem q902 : (Jvm.Cond.selects "JumpHall$Jumper" ({ cls := "JumpHall$Jumper", name := "copy", desc := "()LJumpHall$Jumper;" } : Jvm.MethodName) ({ cls := "JumpHall$Jumper", name := "copy", desc := "()LJumpHall$Jumper;" } : Jvm.MethodName)) ∈ lw_all := lw_g (lw_at lw_m4 109 rfl) rfl
theorem q903 : (Jvm.Cond.code ({ cls := "JumpHall$Jumper", name := "copy", desc := "()LJumpHall$Jumper;" } : Jvm.MethodName) prog_7_method_2_code (2 : Nat) (Option.some (Jvm.ClassFile.FieldType.object "JumpHall$Jumper"))) ∈ lw_all := lw_g (lw_at lw_m4 110 rfl) rfl
theorem q904 : (Jvm.Cond.classLink "JumpHall$Jumper" (10 : Nat) "JumpHall$Jumper") ∈ lw_all := lw_g (lw_at lw_m4 111 rfl) rfl
theorem q905 : (Jvm.Cond.instantiable "JumpHall$Jumper" (8 : Nat)) ∈ lw_all := lw_g (lw_at lw_m4 112 rfl) rfl
theorem q906 : (Jvm.Cond.methodLink "JumpHall$Jumper" (30 : Nat) ({ cls := "JumpHall$Jumper", name := "<init>", desc := "(IIII)V" } : Jvm.MethodName)) ∈ lw_all := lw_g (lw_at lw_m4 113 rfl) rfl
theorem q907 : (Jvm.Cond.instanceMethod ({ cls := "JumpHall$Jumper", name := "<init>", desc := "(IIII)V" } : Jvm.MethodName)) ∈ lw_all := lw_g (lw_at lw_m4 114 rfl) rfl
theorem q908 : (Jvm.Cond.code ({ cls := "JumpHall$Jumper", name := "<init>", desc := "(IIII)V" } : Jvm.MethodName) prog_7_method_1_code (5 : Nat) (Option.none : Option Jvm.ClassFile.FieldType)) ∈ lw_all := lw_g (lw_at lw_m4 115 rfl) rfl
theorem q909 : (Jvm.Cond.methodLink "JumpHall$Jumper" (3 : Nat) ({ cls := "java/lang/Object", name := "<init>", desc := "()V" } : Jvm.MethodName)) ∈ lw_all := lw_g (lw_at lw_m4 116 rfl) rfl
theorem q910 : (Jvm.Cond.fieldLink "JumpHall$Jumper" (18 : Nat) "JumpHall$Jumper" "number" "I") ∈ lw_all := lw_g (lw_at lw_m4 117 rfl) rfl
theorem q913 : (Jvm.Cond.fieldLink "JumpHall$Jumper" (21 : Nat) "JumpHall$Jumper" "weight" "I") ∈ lw_all := lw_g (lw_at lw_m4 120 rfl) rfl
theorem q916 : (Jvm.Cond.fieldLink "JumpHall$Jumper" (24 : Nat) "JumpHall$Jumper" "size" "I") ∈ lw_all := lw_g (lw_at lw_m4 123 rfl) rfl
theorem q919 : (Jvm.Cond.fieldLink "JumpHall$Jumper" (27 : Nat) "JumpHall$Jumper" "party" "I") ∈ lw_all := lw_g (lw_at lw_m4 126 rfl) rfl
theorem q921 : (Jvm.Cond.fieldLink "JumpHall$Jumper" (33 : Nat) "JumpHall$Jumper" "state" "I") ∈ lw_all := lw_g (lw_at lw_m4 128 rfl) rfl
theorem q924 : (Jvm.Cond.fieldLink "JumpHall$Jumper" (9 : Nat) "JumpHall$Jumper" "mat" "I") ∈ lw_all := lw_g (lw_at lw_m4 131 rfl) rfl
theorem q927 : (Jvm.Cond.fieldLink "JumpHall$Jumper" (15 : Nat) "JumpHall$Jumper" "colour" "I") ∈ lw_all := lw_g (lw_at lw_m4 134 rfl) rfl
theorem q930 : (Jvm.Cond.fieldLink "JumpHall$Jumper" (36 : Nat) "JumpHall$Jumper" "minutes" "I") ∈ lw_all := lw_g (lw_at lw_m4 137 rfl) rfl
theorem q1832 : (Jvm.Cond.instanceMethod ({ cls := "JumpHall$Jumper", name := "isOn", desc := "(I)Z" } : Jvm.MethodName)) ∈ lw_all := lw_g (lw_at lw_m8 79 rfl) rfl
theorem q1833 : (Jvm.Cond.selects "JumpHall$Jumper" ({ cls := "JumpHall$Jumper", name := "isOn", desc := "(I)Z" } : Jvm.MethodName) ({ cls := "JumpHall$Jumper", name := "isOn", desc := "(I)Z" } : Jvm.MethodName)) ∈ lw_all := lw_g (lw_at lw_m8 80 rfl) rfl
theorem q1834 : (Jvm.Cond.code ({ cls := "JumpHall$Jumper", name := "isOn", desc := "(I)Z" } : Jvm.MethodName) prog_7_method_3_code (2 : Nat) (Option.some Jvm.ClassFile.FieldType.boolean)) ∈ lw_all := lw_g (lw_at lw_m8 81 rfl) rfl
theorem q2029 : (Jvm.Cond.instanceMethod ({ cls := "JumpHall$Jumper", name := "hasSocks", desc := "()Z" } : Jvm.MethodName)) ∈ lw_all := lw_g (lw_at lw_m9 36 rfl) rfl
theorem q2030 : (Jvm.Cond.selects "JumpHall$Jumper" ({ cls := "JumpHall$Jumper", name := "hasSocks", desc := "()Z" } : Jvm.MethodName) ({ cls := "JumpHall$Jumper", name := "hasSocks", desc := "()Z" } : Jvm.MethodName)) ∈ lw_all := lw_g (lw_at lw_m9 37 rfl) rfl
theorem q2031 : (Jvm.Cond.code ({ cls := "JumpHall$Jumper", name := "hasSocks", desc := "()Z" } : Jvm.MethodName) prog_7_method_5_code (1 : Nat) (Option.some Jvm.ClassFile.FieldType.boolean)) ∈ lw_all := lw_g (lw_at lw_m9 38 rfl) rfl
theorem q2172 : (Jvm.Cond.instanceMethod ({ cls := "JumpHall$Jumper", name := "isLight", desc := "()Z" } : Jvm.MethodName)) ∈ lw_all := lw_g (lw_at lw_m9 179 rfl) rfl
theorem q2173 : (Jvm.Cond.selects "JumpHall$Jumper" ({ cls := "JumpHall$Jumper", name := "isLight", desc := "()Z" } : Jvm.MethodName) ({ cls := "JumpHall$Jumper", name := "isLight", desc := "()Z" } : Jvm.MethodName)) ∈ lw_all := lw_g (lw_at lw_m9 180 rfl) rfl
theorem q2174 : (Jvm.Cond.code ({ cls := "JumpHall$Jumper", name := "isLight", desc := "()Z" } : Jvm.MethodName) prog_7_method_6_code (1 : Nat) (Option.some Jvm.ClassFile.FieldType.boolean)) ∈ lw_all := lw_g (lw_at lw_m9 181 rfl) rfl
theorem q2194 : (Jvm.Cond.instanceMethod ({ cls := "JumpHall$Jumper", name := "waits", desc := "()V" } : Jvm.MethodName)) ∈ lw_all := lw_g (lw_at lw_m9 201 rfl) rfl
theorem q2195 : (Jvm.Cond.selects "JumpHall$Jumper" ({ cls := "JumpHall$Jumper", name := "waits", desc := "()V" } : Jvm.MethodName) ({ cls := "JumpHall$Jumper", name := "waits", desc := "()V" } : Jvm.MethodName)) ∈ lw_all := lw_g (lw_at lw_m9 202 rfl) rfl
theorem q2196 : (Jvm.Cond.code ({ cls := "JumpHall$Jumper", name := "waits", desc := "()V" } : Jvm.MethodName) prog_7_method_7_code (1 : Nat) (Option.none : Option Jvm.ClassFile.FieldType)) ∈ lw_all := lw_g (lw_at lw_m9 203 rfl) rfl
theorem q2213 : (Jvm.Cond.instanceMethod ({ cls := "JumpHall$Jumper", name := "isGone", desc := "()Z" } : Jvm.MethodName)) ∈ lw_all := lw_g (lw_at lw_m9 220 rfl) rfl
theorem q2214 : (Jvm.Cond.selects "JumpHall$Jumper" ({ cls := "JumpHall$Jumper", name := "isGone", desc := "()Z" } : Jvm.MethodName) ({ cls := "JumpHall$Jumper", name := "isGone", desc := "()Z" } : Jvm.MethodName)) ∈ lw_all := lw_g (lw_at lw_m9 221 rfl) rfl
theorem q2215 : (Jvm.Cond.code ({ cls := "JumpHall$Jumper", name := "isGone", desc := "()Z" } : Jvm.MethodName) prog_7_method_4_code (1 : Nat) (Option.some Jvm.ClassFile.FieldType.boolean)) ∈ lw_all := lw_g (lw_at lw_m9 222 rfl) rfl
theorem q3513 : (Jvm.Cond.castable "JumpHall$Jumper" "java/lang/Object") ∈ lw_tbl := lw_at lw_m15 80 rfl
/-! JumpHall$Party -/
def RX9 : String := "JumpHall$Party"
abbrev cX9_copy : ByteArray := prog_11_method_2_code
def yX9_copy : MethodName := ⟨RX9, "copy", "()LJumpHall$Party;"⟩
def dkwX9_copy_1 : List UInt8 := [43, 42, 180, 0, 25, 181, 0, 25, 43, 42, 180, 0, 28, 181, 0, 28, 43, 176]
abbrev dktX9_copy_1 : List UInt8 := dkwX9_copy_1 ++ []
def dkwX9_copy_0 : List UInt8 := [187, 0, 8, 89, 42, 180, 0, 7, 42, 180, 0, 13, 42, 180, 0, 16, 42, 180, 0, 19, 183, 0, 22, 76]
abbrev dktX9_copy_0 : List UInt8 := dkwX9_copy_0 ++ dktX9_copy_1
theorem dksX9_copy_0 : cX9_copy.data.toList.drop 0 = dktX9_copy_0 := by decide +kernel
theorem dksX9_copy_1 : cX9_copy.data.toList.drop 24 = dktX9_copy_1 := dk_seg dksX9_copy_0 24 rfl rfl
theorem dX9_copy_0 : decode cX9_copy 0 = .ok (.new 8, 3) := dk_187 0 8 (dk_at dksX9_copy_0 0 rfl rfl)
theorem dX9_copy_3 : decode cX9_copy 3 = .ok (.dup, 1) := dk_89 (dk_at dksX9_copy_0 3 rfl rfl)
theorem dX9_copy_4 : decode cX9_copy 4 = .ok (.aload_n 0, 1) := dk_42 (dk_at dksX9_copy_0 4 rfl rfl)
theorem dX9_copy_5 : decode cX9_copy 5 = .ok (.getfield 7, 3) := dk_180 0 7 (dk_at dksX9_copy_0 5 rfl rfl)
theorem dX9_copy_8 : decode cX9_copy 8 = .ok (.aload_n 0, 1) := dk_42 (dk_at dksX9_copy_0 8 rfl rfl)
theorem dX9_copy_9 : decode cX9_copy 9 = .ok (.getfield 13, 3) := dk_180 0 13 (dk_at dksX9_copy_0 9 rfl rfl)
theorem dX9_copy_12 : decode cX9_copy 12 = .ok (.aload_n 0, 1) := dk_42 (dk_at dksX9_copy_0 12 rfl rfl)
theorem dX9_copy_13 : decode cX9_copy 13 = .ok (.getfield 16, 3) := dk_180 0 16 (dk_at dksX9_copy_0 13 rfl rfl)
theorem dX9_copy_16 : decode cX9_copy 16 = .ok (.aload_n 0, 1) := dk_42 (dk_at dksX9_copy_0 16 rfl rfl)
theorem dX9_copy_17 : decode cX9_copy 17 = .ok (.getfield 19, 3) := dk_180 0 19 (dk_at dksX9_copy_0 17 rfl rfl)
theorem dX9_copy_20 : decode cX9_copy 20 = .ok (.invokespecial 22, 3) := dk_183 0 22 (dk_at dksX9_copy_0 20 rfl rfl)
theorem dX9_copy_23 : decode cX9_copy 23 = .ok (.astore_n 1, 1) := dk_76 (dk_at dksX9_copy_0 23 rfl rfl)
theorem dX9_copy_24 : decode cX9_copy 24 = .ok (.aload_n 1, 1) := dk_43 (dk_at dksX9_copy_1 0 rfl rfl)
theorem dX9_copy_25 : decode cX9_copy 25 = .ok (.aload_n 0, 1) := dk_42 (dk_at dksX9_copy_1 1 rfl rfl)
theorem dX9_copy_26 : decode cX9_copy 26 = .ok (.getfield 25, 3) := dk_180 0 25 (dk_at dksX9_copy_1 2 rfl rfl)
theorem dX9_copy_29 : decode cX9_copy 29 = .ok (.putfield 25, 3) := dk_181 0 25 (dk_at dksX9_copy_1 5 rfl rfl)
theorem dX9_copy_32 : decode cX9_copy 32 = .ok (.aload_n 1, 1) := dk_43 (dk_at dksX9_copy_1 8 rfl rfl)
theorem dX9_copy_33 : decode cX9_copy 33 = .ok (.aload_n 0, 1) := dk_42 (dk_at dksX9_copy_1 9 rfl rfl)
theorem dX9_copy_34 : decode cX9_copy 34 = .ok (.getfield 28, 3) := dk_180 0 28 (dk_at dksX9_copy_1 10 rfl rfl)
theorem dX9_copy_37 : decode cX9_copy 37 = .ok (.putfield 28, 3) := dk_181 0 28 (dk_at dksX9_copy_1 13 rfl rfl)
theorem dX9_copy_40 : decode cX9_copy 40 = .ok (.aload_n 1, 1) := dk_43 (dk_at dksX9_copy_1 16 rfl rfl)
theorem dX9_copy_41 : decode cX9_copy 41 = .ok (.areturn, 1) := dk_176 (dk_at dksX9_copy_1 17 rfl rfl)
abbrev cX9_init : ByteArray := prog_11_method_1_code
def yX9_init : MethodName := ⟨RX9, "<init>", "(IIII)V"⟩
def dkwX9_init_1 : List UInt8 := [181, 0, 19, 177]
abbrev dktX9_init_1 : List UInt8 := dkwX9_init_1 ++ []
def dkwX9_init_0 : List UInt8 := [42, 183, 0, 1, 42, 27, 181, 0, 7, 42, 28, 181, 0, 13, 42, 29, 181, 0, 16, 42, 21, 4]
abbrev dktX9_init_0 : List UInt8 := dkwX9_init_0 ++ dktX9_init_1
theorem dksX9_init_0 : cX9_init.data.toList.drop 0 = dktX9_init_0 := by decide +kernel
theorem dksX9_init_1 : cX9_init.data.toList.drop 22 = dktX9_init_1 := dk_seg dksX9_init_0 22 rfl rfl
theorem dX9_init_0 : decode cX9_init 0 = .ok (.aload_n 0, 1) := dk_42 (dk_at dksX9_init_0 0 rfl rfl)
theorem dX9_init_1 : decode cX9_init 1 = .ok (.invokespecial 1, 3) := dk_183 0 1 (dk_at dksX9_init_0 1 rfl rfl)
theorem dX9_init_4 : decode cX9_init 4 = .ok (.aload_n 0, 1) := dk_42 (dk_at dksX9_init_0 4 rfl rfl)
theorem dX9_init_5 : decode cX9_init 5 = .ok (.iload_n 1, 1) := dk_27 (dk_at dksX9_init_0 5 rfl rfl)
theorem dX9_init_6 : decode cX9_init 6 = .ok (.putfield 7, 3) := dk_181 0 7 (dk_at dksX9_init_0 6 rfl rfl)
theorem dX9_init_9 : decode cX9_init 9 = .ok (.aload_n 0, 1) := dk_42 (dk_at dksX9_init_0 9 rfl rfl)
theorem dX9_init_10 : decode cX9_init 10 = .ok (.iload_n 2, 1) := dk_28 (dk_at dksX9_init_0 10 rfl rfl)
theorem dX9_init_11 : decode cX9_init 11 = .ok (.putfield 13, 3) := dk_181 0 13 (dk_at dksX9_init_0 11 rfl rfl)
theorem dX9_init_14 : decode cX9_init 14 = .ok (.aload_n 0, 1) := dk_42 (dk_at dksX9_init_0 14 rfl rfl)
theorem dX9_init_15 : decode cX9_init 15 = .ok (.iload_n 3, 1) := dk_29 (dk_at dksX9_init_0 15 rfl rfl)
theorem dX9_init_16 : decode cX9_init 16 = .ok (.putfield 16, 3) := dk_181 0 16 (dk_at dksX9_init_0 16 rfl rfl)
theorem dX9_init_19 : decode cX9_init 19 = .ok (.aload_n 0, 1) := dk_42 (dk_at dksX9_init_0 19 rfl rfl)
theorem dX9_init_20 : decode cX9_init 20 = .ok (.iload 4, 2) := dk_21 4 (dk_at dksX9_init_0 20 rfl rfl)
theorem dX9_init_22 : decode cX9_init 22 = .ok (.putfield 19, 3) := dk_181 0 19 (dk_at dksX9_init_1 0 rfl rfl)
theorem dX9_init_25 : decode cX9_init 25 = .ok (.return_, 1) := dk_177 (dk_at dksX9_init_1 3 rfl rfl)
abbrev cX9_isBooked : ByteArray := prog_11_method_3_code
def yX9_isBooked : MethodName := ⟨RX9, "isBooked", "()Z"⟩
def dkwX9_isBooked_0 : List UInt8 := [42, 180, 0, 25, 154, 0, 7, 4, 167, 0, 4, 3, 172]
abbrev dktX9_isBooked_0 : List UInt8 := dkwX9_isBooked_0 ++ []
theorem dksX9_isBooked_0 : cX9_isBooked.data.toList.drop 0 = dktX9_isBooked_0 := by decide +kernel
theorem dX9_isBooked_0 : decode cX9_isBooked 0 = .ok (.aload_n 0, 1) := dk_42 (dk_at dksX9_isBooked_0 0 rfl rfl)
theorem dX9_isBooked_1 : decode cX9_isBooked 1 = .ok (.getfield 25, 3) := dk_180 0 25 (dk_at dksX9_isBooked_0 1 rfl rfl)
theorem dX9_isBooked_4 : decode cX9_isBooked 4 = .ok (.ifCond .ne 7, 3) := dk_154 0 7 (dk_at dksX9_isBooked_0 4 rfl rfl)
theorem dX9_isBooked_7 : decode cX9_isBooked 7 = .ok (.iconst 1, 1) := dk_4 (dk_at dksX9_isBooked_0 7 rfl rfl)
theorem dX9_isBooked_8 : decode cX9_isBooked 8 = .ok (.goto 4, 3) := dk_167 0 4 (dk_at dksX9_isBooked_0 8 rfl rfl)
theorem dX9_isBooked_11 : decode cX9_isBooked 11 = .ok (.iconst 0, 1) := dk_3 (dk_at dksX9_isBooked_0 11 rfl rfl)
theorem dX9_isBooked_12 : decode cX9_isBooked 12 = .ok (.ireturn, 1) := dk_172 (dk_at dksX9_isBooked_0 12 rfl rfl)
theorem q108 : (Jvm.Cond.initialized "JumpHall$Party") ∈ lw_all := lw_g (lw_at lw_m1 35 rfl) rfl
theorem q952 : (Jvm.Cond.instanceMethod ({ cls := "JumpHall$Party", name := "copy", desc := "()LJumpHall$Party;" } : Jvm.MethodName)) ∈ lw_all := lw_g (lw_at lw_m4 159 rfl) rfl
theorem q953 : (Jvm.Cond.selects "JumpHall$Party" ({ cls := "JumpHall$Party", name := "copy", desc := "()LJumpHall$Party;" } : Jvm.MethodName) ({ cls := "JumpHall$Party", name := "copy", desc := "()LJumpHall$Party;" } : Jvm.MethodName)) ∈ lw_all := lw_g (lw_at lw_m4 160 rfl) rfl
theorem q954 : (Jvm.Cond.code ({ cls := "JumpHall$Party", name := "copy", desc := "()LJumpHall$Party;" } : Jvm.MethodName) prog_11_method_2_code (2 : Nat) (Option.some (Jvm.ClassFile.FieldType.object "JumpHall$Party"))) ∈ lw_all := lw_g (lw_at lw_m4 161 rfl) rfl
theorem q955 : (Jvm.Cond.classLink "JumpHall$Party" (8 : Nat) "JumpHall$Party") ∈ lw_all := lw_g (lw_at lw_m4 162 rfl) rfl
theorem q956 : (Jvm.Cond.instantiable "JumpHall$Party" (6 : Nat)) ∈ lw_all := lw_g (lw_at lw_m4 163 rfl) rfl
theorem q957 : (Jvm.Cond.methodLink "JumpHall$Party" (22 : Nat) ({ cls := "JumpHall$Party", name := "<init>", desc := "(IIII)V" } : Jvm.MethodName)) ∈ lw_all := lw_g (lw_at lw_m4 164 rfl) rfl
theorem q958 : (Jvm.Cond.instanceMethod ({ cls := "JumpHall$Party", name := "<init>", desc := "(IIII)V" } : Jvm.MethodName)) ∈ lw_all := lw_g (lw_at lw_m4 165 rfl) rfl
theorem q959 : (Jvm.Cond.code ({ cls := "JumpHall$Party", name := "<init>", desc := "(IIII)V" } : Jvm.MethodName) prog_11_method_1_code (5 : Nat) (Option.none : Option Jvm.ClassFile.FieldType)) ∈ lw_all := lw_g (lw_at lw_m4 166 rfl) rfl
theorem q960 : (Jvm.Cond.methodLink "JumpHall$Party" (1 : Nat) ({ cls := "java/lang/Object", name := "<init>", desc := "()V" } : Jvm.MethodName)) ∈ lw_all := lw_g (lw_at lw_m4 167 rfl) rfl
theorem q961 : (Jvm.Cond.fieldLink "JumpHall$Party" (7 : Nat) "JumpHall$Party" "minute" "I") ∈ lw_all := lw_g (lw_at lw_m4 168 rfl) rfl
theorem q964 : (Jvm.Cond.fieldLink "JumpHall$Party" (13 : Nat) "JumpHall$Party" "children" "I") ∈ lw_all := lw_g (lw_at lw_m4 171 rfl) rfl
theorem q967 : (Jvm.Cond.fieldLink "JumpHall$Party" (16 : Nat) "JumpHall$Party" "weight" "I") ∈ lw_all := lw_g (lw_at lw_m4 174 rfl) rfl
theorem q969 : (Jvm.Cond.fieldLink "JumpHall$Party" (19 : Nat) "JumpHall$Party" "size" "I") ∈ lw_all := lw_g (lw_at lw_m4 176 rfl) rfl
theorem q971 : (Jvm.Cond.fieldLink "JumpHall$Party" (25 : Nat) "JumpHall$Party" "state" "I") ∈ lw_all := lw_g (lw_at lw_m4 178 rfl) rfl
theorem q974 : (Jvm.Cond.fieldLink "JumpHall$Party" (28 : Nat) "JumpHall$Party" "came" "I") ∈ lw_all := lw_g (lw_at lw_m4 181 rfl) rfl
theorem q2427 : (Jvm.Cond.instanceMethod ({ cls := "JumpHall$Party", name := "isBooked", desc := "()Z" } : Jvm.MethodName)) ∈ lw_all := lw_g (lw_at lw_m10 194 rfl) rfl
theorem q2428 : (Jvm.Cond.selects "JumpHall$Party" ({ cls := "JumpHall$Party", name := "isBooked", desc := "()Z" } : Jvm.MethodName) ({ cls := "JumpHall$Party", name := "isBooked", desc := "()Z" } : Jvm.MethodName)) ∈ lw_all := lw_g (lw_at lw_m10 195 rfl) rfl
theorem q2429 : (Jvm.Cond.code ({ cls := "JumpHall$Party", name := "isBooked", desc := "()Z" } : Jvm.MethodName) prog_11_method_3_code (1 : Nat) (Option.some Jvm.ClassFile.FieldType.boolean)) ∈ lw_all := lw_g (lw_at lw_m10 196 rfl) rfl
theorem q3514 : (Jvm.Cond.castable "JumpHall$Party" "java/lang/Object") ∈ lw_tbl := lw_at lw_m15 81 rfl
/-! java/util/HashMap$HashIterator -/
def RJ25 : String := "java/util/HashMap$HashIterator"
abbrev cJ25_hasNext : ByteArray := prog_61_method_2_code
def yJ25_hasNext : MethodName := ⟨RJ25, "hasNext", "()Z"⟩
def dkwJ25_hasNext_0 : List UInt8 := [42, 180, 0, 26, 198, 0, 7, 4, 167, 0, 4, 3, 172]
abbrev dktJ25_hasNext_0 : List UInt8 := dkwJ25_hasNext_0 ++ []
theorem dksJ25_hasNext_0 : cJ25_hasNext.data.toList.drop 0 = dktJ25_hasNext_0 := by decide +kernel
theorem dJ25_hasNext_0 : decode cJ25_hasNext 0 = .ok (.aload_n 0, 1) := dk_42 (dk_at dksJ25_hasNext_0 0 rfl rfl)
theorem dJ25_hasNext_1 : decode cJ25_hasNext 1 = .ok (.getfield 26, 3) := dk_180 0 26 (dk_at dksJ25_hasNext_0 1 rfl rfl)
theorem dJ25_hasNext_4 : decode cJ25_hasNext 4 = .ok (.ifnull 7, 3) := dk_198 0 7 (dk_at dksJ25_hasNext_0 4 rfl rfl)
theorem dJ25_hasNext_7 : decode cJ25_hasNext 7 = .ok (.iconst 1, 1) := dk_4 (dk_at dksJ25_hasNext_0 7 rfl rfl)
theorem dJ25_hasNext_8 : decode cJ25_hasNext 8 = .ok (.goto 4, 3) := dk_167 0 4 (dk_at dksJ25_hasNext_0 8 rfl rfl)
theorem dJ25_hasNext_11 : decode cJ25_hasNext 11 = .ok (.iconst 0, 1) := dk_3 (dk_at dksJ25_hasNext_0 11 rfl rfl)
theorem dJ25_hasNext_12 : decode cJ25_hasNext 12 = .ok (.ireturn, 1) := dk_172 (dk_at dksJ25_hasNext_0 12 rfl rfl)
abbrev cJ25_nextNode : ByteArray := prog_61_method_3_code
def yJ25_nextNode : MethodName := ⟨RJ25, "nextNode", "()Ljava/util/HashMap$Node;"⟩
def dkwJ25_nextNode_4 : List UInt8 := [181, 0, 26, 198, 255, 229, 44, 176]
abbrev dktJ25_nextNode_4 : List UInt8 := dkwJ25_nextNode_4 ++ []
def dkwJ25_nextNode_3 : List UInt8 := [180, 0, 33, 43, 190, 162, 0, 24, 42, 43, 42, 89, 180, 0, 33, 90, 4, 96, 181, 0, 33, 50, 90]
abbrev dktJ25_nextNode_3 : List UInt8 := dkwJ25_nextNode_3 ++ dktJ25_nextNode_4
def dkwJ25_nextNode_2 : List UInt8 := [180, 0, 45, 90, 181, 0, 26, 199, 0, 45, 42, 180, 0, 1, 180, 0, 22, 89, 76, 198, 0, 33, 42]
abbrev dktJ25_nextNode_2 : List UInt8 := dkwJ25_nextNode_2 ++ dktJ25_nextNode_3
def dkwJ25_nextNode_1 : List UInt8 := [183, 0, 41, 191, 44, 199, 0, 11, 187, 0, 42, 89, 183, 0, 44, 191, 42, 42, 44, 90, 181, 0, 30]
abbrev dktJ25_nextNode_1 : List UInt8 := dkwJ25_nextNode_1 ++ dktJ25_nextNode_2
def dkwJ25_nextNode_0 : List UInt8 := [42, 180, 0, 26, 77, 42, 180, 0, 1, 180, 0, 13, 42, 180, 0, 19, 159, 0, 11, 187, 0, 39, 89]
abbrev dktJ25_nextNode_0 : List UInt8 := dkwJ25_nextNode_0 ++ dktJ25_nextNode_1
theorem dksJ25_nextNode_0 : cJ25_nextNode.data.toList.drop 0 = dktJ25_nextNode_0 := by decide +kernel
theorem dksJ25_nextNode_1 : cJ25_nextNode.data.toList.drop 23 = dktJ25_nextNode_1 := dk_seg dksJ25_nextNode_0 23 rfl rfl
theorem dksJ25_nextNode_2 : cJ25_nextNode.data.toList.drop 46 = dktJ25_nextNode_2 := dk_seg dksJ25_nextNode_1 23 rfl rfl
theorem dksJ25_nextNode_3 : cJ25_nextNode.data.toList.drop 69 = dktJ25_nextNode_3 := dk_seg dksJ25_nextNode_2 23 rfl rfl
theorem dksJ25_nextNode_4 : cJ25_nextNode.data.toList.drop 92 = dktJ25_nextNode_4 := dk_seg dksJ25_nextNode_3 23 rfl rfl
theorem dJ25_nextNode_0 : decode cJ25_nextNode 0 = .ok (.aload_n 0, 1) := dk_42 (dk_at dksJ25_nextNode_0 0 rfl rfl)
theorem dJ25_nextNode_1 : decode cJ25_nextNode 1 = .ok (.getfield 26, 3) := dk_180 0 26 (dk_at dksJ25_nextNode_0 1 rfl rfl)
theorem dJ25_nextNode_4 : decode cJ25_nextNode 4 = .ok (.astore_n 2, 1) := dk_77 (dk_at dksJ25_nextNode_0 4 rfl rfl)
theorem dJ25_nextNode_5 : decode cJ25_nextNode 5 = .ok (.aload_n 0, 1) := dk_42 (dk_at dksJ25_nextNode_0 5 rfl rfl)
theorem dJ25_nextNode_6 : decode cJ25_nextNode 6 = .ok (.getfield 1, 3) := dk_180 0 1 (dk_at dksJ25_nextNode_0 6 rfl rfl)
theorem dJ25_nextNode_9 : decode cJ25_nextNode 9 = .ok (.getfield 13, 3) := dk_180 0 13 (dk_at dksJ25_nextNode_0 9 rfl rfl)
theorem dJ25_nextNode_12 : decode cJ25_nextNode 12 = .ok (.aload_n 0, 1) := dk_42 (dk_at dksJ25_nextNode_0 12 rfl rfl)
theorem dJ25_nextNode_13 : decode cJ25_nextNode 13 = .ok (.getfield 19, 3) := dk_180 0 19 (dk_at dksJ25_nextNode_0 13 rfl rfl)
theorem dJ25_nextNode_16 : decode cJ25_nextNode 16 = .ok (.if_icmp .eq 11, 3) := dk_159 0 11 (dk_at dksJ25_nextNode_0 16 rfl rfl)
theorem dJ25_nextNode_19 : decode cJ25_nextNode 19 = .ok (.new 39, 3) := dk_187 0 39 (dk_at dksJ25_nextNode_0 19 rfl rfl)
theorem dJ25_nextNode_22 : decode cJ25_nextNode 22 = .ok (.dup, 1) := dk_89 (dk_at dksJ25_nextNode_0 22 rfl rfl)
theorem dJ25_nextNode_23 : decode cJ25_nextNode 23 = .ok (.invokespecial 41, 3) := dk_183 0 41 (dk_at dksJ25_nextNode_1 0 rfl rfl)
theorem dJ25_nextNode_26 : decode cJ25_nextNode 26 = .ok (.athrow, 1) := dk_191 (dk_at dksJ25_nextNode_1 3 rfl rfl)
theorem dJ25_nextNode_27 : decode cJ25_nextNode 27 = .ok (.aload_n 2, 1) := dk_44 (dk_at dksJ25_nextNode_1 4 rfl rfl)
theorem dJ25_nextNode_28 : decode cJ25_nextNode 28 = .ok (.ifnonnull 11, 3) := dk_199 0 11 (dk_at dksJ25_nextNode_1 5 rfl rfl)
theorem dJ25_nextNode_31 : decode cJ25_nextNode 31 = .ok (.new 42, 3) := dk_187 0 42 (dk_at dksJ25_nextNode_1 8 rfl rfl)
theorem dJ25_nextNode_34 : decode cJ25_nextNode 34 = .ok (.dup, 1) := dk_89 (dk_at dksJ25_nextNode_1 11 rfl rfl)
theorem dJ25_nextNode_35 : decode cJ25_nextNode 35 = .ok (.invokespecial 44, 3) := dk_183 0 44 (dk_at dksJ25_nextNode_1 12 rfl rfl)
theorem dJ25_nextNode_38 : decode cJ25_nextNode 38 = .ok (.athrow, 1) := dk_191 (dk_at dksJ25_nextNode_1 15 rfl rfl)
theorem dJ25_nextNode_39 : decode cJ25_nextNode 39 = .ok (.aload_n 0, 1) := dk_42 (dk_at dksJ25_nextNode_1 16 rfl rfl)
theorem dJ25_nextNode_40 : decode cJ25_nextNode 40 = .ok (.aload_n 0, 1) := dk_42 (dk_at dksJ25_nextNode_1 17 rfl rfl)
theorem dJ25_nextNode_41 : decode cJ25_nextNode 41 = .ok (.aload_n 2, 1) := dk_44 (dk_at dksJ25_nextNode_1 18 rfl rfl)
theorem dJ25_nextNode_42 : decode cJ25_nextNode 42 = .ok (.dup_x1, 1) := dk_90 (dk_at dksJ25_nextNode_1 19 rfl rfl)
theorem dJ25_nextNode_43 : decode cJ25_nextNode 43 = .ok (.putfield 30, 3) := dk_181 0 30 (dk_at dksJ25_nextNode_1 20 rfl rfl)
theorem dJ25_nextNode_46 : decode cJ25_nextNode 46 = .ok (.getfield 45, 3) := dk_180 0 45 (dk_at dksJ25_nextNode_2 0 rfl rfl)
theorem dJ25_nextNode_49 : decode cJ25_nextNode 49 = .ok (.dup_x1, 1) := dk_90 (dk_at dksJ25_nextNode_2 3 rfl rfl)
theorem dJ25_nextNode_50 : decode cJ25_nextNode 50 = .ok (.putfield 26, 3) := dk_181 0 26 (dk_at dksJ25_nextNode_2 4 rfl rfl)
theorem dJ25_nextNode_53 : decode cJ25_nextNode 53 = .ok (.ifnonnull 45, 3) := dk_199 0 45 (dk_at dksJ25_nextNode_2 7 rfl rfl)
theorem dJ25_nextNode_56 : decode cJ25_nextNode 56 = .ok (.aload_n 0, 1) := dk_42 (dk_at dksJ25_nextNode_2 10 rfl rfl)
theorem dJ25_nextNode_57 : decode cJ25_nextNode 57 = .ok (.getfield 1, 3) := dk_180 0 1 (dk_at dksJ25_nextNode_2 11 rfl rfl)
theorem dJ25_nextNode_60 : decode cJ25_nextNode 60 = .ok (.getfield 22, 3) := dk_180 0 22 (dk_at dksJ25_nextNode_2 14 rfl rfl)
theorem dJ25_nextNode_63 : decode cJ25_nextNode 63 = .ok (.dup, 1) := dk_89 (dk_at dksJ25_nextNode_2 17 rfl rfl)
theorem dJ25_nextNode_64 : decode cJ25_nextNode 64 = .ok (.astore_n 1, 1) := dk_76 (dk_at dksJ25_nextNode_2 18 rfl rfl)
theorem dJ25_nextNode_65 : decode cJ25_nextNode 65 = .ok (.ifnull 33, 3) := dk_198 0 33 (dk_at dksJ25_nextNode_2 19 rfl rfl)
theorem dJ25_nextNode_68 : decode cJ25_nextNode 68 = .ok (.aload_n 0, 1) := dk_42 (dk_at dksJ25_nextNode_2 22 rfl rfl)
theorem dJ25_nextNode_69 : decode cJ25_nextNode 69 = .ok (.getfield 33, 3) := dk_180 0 33 (dk_at dksJ25_nextNode_3 0 rfl rfl)
theorem dJ25_nextNode_72 : decode cJ25_nextNode 72 = .ok (.aload_n 1, 1) := dk_43 (dk_at dksJ25_nextNode_3 3 rfl rfl)
theorem dJ25_nextNode_73 : decode cJ25_nextNode 73 = .ok (.arraylength, 1) := dk_190 (dk_at dksJ25_nextNode_3 4 rfl rfl)
theorem dJ25_nextNode_74 : decode cJ25_nextNode 74 = .ok (.if_icmp .ge 24, 3) := dk_162 0 24 (dk_at dksJ25_nextNode_3 5 rfl rfl)
theorem dJ25_nextNode_77 : decode cJ25_nextNode 77 = .ok (.aload_n 0, 1) := dk_42 (dk_at dksJ25_nextNode_3 8 rfl rfl)
theorem dJ25_nextNode_78 : decode cJ25_nextNode 78 = .ok (.aload_n 1, 1) := dk_43 (dk_at dksJ25_nextNode_3 9 rfl rfl)
theorem dJ25_nextNode_79 : decode cJ25_nextNode 79 = .ok (.aload_n 0, 1) := dk_42 (dk_at dksJ25_nextNode_3 10 rfl rfl)
theorem dJ25_nextNode_80 : decode cJ25_nextNode 80 = .ok (.dup, 1) := dk_89 (dk_at dksJ25_nextNode_3 11 rfl rfl)
theorem dJ25_nextNode_81 : decode cJ25_nextNode 81 = .ok (.getfield 33, 3) := dk_180 0 33 (dk_at dksJ25_nextNode_3 12 rfl rfl)
theorem dJ25_nextNode_84 : decode cJ25_nextNode 84 = .ok (.dup_x1, 1) := dk_90 (dk_at dksJ25_nextNode_3 15 rfl rfl)
theorem dJ25_nextNode_85 : decode cJ25_nextNode 85 = .ok (.iconst 1, 1) := dk_4 (dk_at dksJ25_nextNode_3 16 rfl rfl)
theorem dJ25_nextNode_86 : decode cJ25_nextNode 86 = .ok (.iadd, 1) := dk_96 (dk_at dksJ25_nextNode_3 17 rfl rfl)
theorem dJ25_nextNode_87 : decode cJ25_nextNode 87 = .ok (.putfield 33, 3) := dk_181 0 33 (dk_at dksJ25_nextNode_3 18 rfl rfl)
theorem dJ25_nextNode_90 : decode cJ25_nextNode 90 = .ok (.aaload, 1) := dk_50 (dk_at dksJ25_nextNode_3 21 rfl rfl)
theorem dJ25_nextNode_91 : decode cJ25_nextNode 91 = .ok (.dup_x1, 1) := dk_90 (dk_at dksJ25_nextNode_3 22 rfl rfl)
theorem dJ25_nextNode_92 : decode cJ25_nextNode 92 = .ok (.putfield 26, 3) := dk_181 0 26 (dk_at dksJ25_nextNode_4 0 rfl rfl)
theorem dJ25_nextNode_95 : decode cJ25_nextNode 95 = .ok (.ifnull (-27), 3) := dk_198 255 229 (dk_at dksJ25_nextNode_4 3 rfl rfl)
theorem dJ25_nextNode_98 : decode cJ25_nextNode 98 = .ok (.aload_n 2, 1) := dk_44 (dk_at dksJ25_nextNode_4 6 rfl rfl)
theorem dJ25_nextNode_99 : decode cJ25_nextNode 99 = .ok (.areturn, 1) := dk_176 (dk_at dksJ25_nextNode_4 7 rfl rfl)
abbrev cJ25_init : ByteArray := prog_61_method_1_code
def yJ25_init : MethodName := ⟨RJ25, "<init>", "(Ljava/util/HashMap;)V"⟩
def dkwJ25_init_3 : List UInt8 := [181, 0, 26, 198, 255, 229, 177]
abbrev dktJ25_init_3 : List UInt8 := dkwJ25_init_3 ++ []
def dkwJ25_init_2 : List UInt8 := [42, 180, 0, 33, 44, 190, 162, 0, 24, 42, 44, 42, 89, 180, 0, 33, 90, 4, 96, 181, 0, 33, 50, 90]
abbrev dktJ25_init_2 : List UInt8 := dkwJ25_init_2 ++ dktJ25_init_3
def dkwJ25_init_1 : List UInt8 := [1, 90, 181, 0, 26, 181, 0, 30, 42, 3, 181, 0, 33, 44, 198, 0, 40, 43, 180, 0, 36, 158, 0, 33]
abbrev dktJ25_init_1 : List UInt8 := dkwJ25_init_1 ++ dktJ25_init_2
def dkwJ25_init_0 : List UInt8 := [42, 43, 181, 0, 1, 42, 183, 0, 7, 42, 43, 180, 0, 13, 181, 0, 19, 43, 180, 0, 22, 77, 42, 42]
abbrev dktJ25_init_0 : List UInt8 := dkwJ25_init_0 ++ dktJ25_init_1
theorem dksJ25_init_0 : cJ25_init.data.toList.drop 0 = dktJ25_init_0 := by decide +kernel
theorem dksJ25_init_1 : cJ25_init.data.toList.drop 24 = dktJ25_init_1 := dk_seg dksJ25_init_0 24 rfl rfl
theorem dksJ25_init_2 : cJ25_init.data.toList.drop 48 = dktJ25_init_2 := dk_seg dksJ25_init_1 24 rfl rfl
theorem dksJ25_init_3 : cJ25_init.data.toList.drop 72 = dktJ25_init_3 := dk_seg dksJ25_init_2 24 rfl rfl
theorem dJ25_init_0 : decode cJ25_init 0 = .ok (.aload_n 0, 1) := dk_42 (dk_at dksJ25_init_0 0 rfl rfl)
theorem dJ25_init_1 : decode cJ25_init 1 = .ok (.aload_n 1, 1) := dk_43 (dk_at dksJ25_init_0 1 rfl rfl)
theorem dJ25_init_2 : decode cJ25_init 2 = .ok (.putfield 1, 3) := dk_181 0 1 (dk_at dksJ25_init_0 2 rfl rfl)
theorem dJ25_init_5 : decode cJ25_init 5 = .ok (.aload_n 0, 1) := dk_42 (dk_at dksJ25_init_0 5 rfl rfl)
theorem dJ25_init_6 : decode cJ25_init 6 = .ok (.invokespecial 7, 3) := dk_183 0 7 (dk_at dksJ25_init_0 6 rfl rfl)
theorem dJ25_init_9 : decode cJ25_init 9 = .ok (.aload_n 0, 1) := dk_42 (dk_at dksJ25_init_0 9 rfl rfl)
theorem dJ25_init_10 : decode cJ25_init 10 = .ok (.aload_n 1, 1) := dk_43 (dk_at dksJ25_init_0 10 rfl rfl)
theorem dJ25_init_11 : decode cJ25_init 11 = .ok (.getfield 13, 3) := dk_180 0 13 (dk_at dksJ25_init_0 11 rfl rfl)
theorem dJ25_init_14 : decode cJ25_init 14 = .ok (.putfield 19, 3) := dk_181 0 19 (dk_at dksJ25_init_0 14 rfl rfl)
theorem dJ25_init_17 : decode cJ25_init 17 = .ok (.aload_n 1, 1) := dk_43 (dk_at dksJ25_init_0 17 rfl rfl)
theorem dJ25_init_18 : decode cJ25_init 18 = .ok (.getfield 22, 3) := dk_180 0 22 (dk_at dksJ25_init_0 18 rfl rfl)
theorem dJ25_init_21 : decode cJ25_init 21 = .ok (.astore_n 2, 1) := dk_77 (dk_at dksJ25_init_0 21 rfl rfl)
theorem dJ25_init_22 : decode cJ25_init 22 = .ok (.aload_n 0, 1) := dk_42 (dk_at dksJ25_init_0 22 rfl rfl)
theorem dJ25_init_23 : decode cJ25_init 23 = .ok (.aload_n 0, 1) := dk_42 (dk_at dksJ25_init_0 23 rfl rfl)
theorem dJ25_init_24 : decode cJ25_init 24 = .ok (.aconst_null, 1) := dk_1 (dk_at dksJ25_init_1 0 rfl rfl)
theorem dJ25_init_25 : decode cJ25_init 25 = .ok (.dup_x1, 1) := dk_90 (dk_at dksJ25_init_1 1 rfl rfl)
theorem dJ25_init_26 : decode cJ25_init 26 = .ok (.putfield 26, 3) := dk_181 0 26 (dk_at dksJ25_init_1 2 rfl rfl)
theorem dJ25_init_29 : decode cJ25_init 29 = .ok (.putfield 30, 3) := dk_181 0 30 (dk_at dksJ25_init_1 5 rfl rfl)
theorem dJ25_init_32 : decode cJ25_init 32 = .ok (.aload_n 0, 1) := dk_42 (dk_at dksJ25_init_1 8 rfl rfl)
theorem dJ25_init_33 : decode cJ25_init 33 = .ok (.iconst 0, 1) := dk_3 (dk_at dksJ25_init_1 9 rfl rfl)
theorem dJ25_init_34 : decode cJ25_init 34 = .ok (.putfield 33, 3) := dk_181 0 33 (dk_at dksJ25_init_1 10 rfl rfl)
theorem dJ25_init_37 : decode cJ25_init 37 = .ok (.aload_n 2, 1) := dk_44 (dk_at dksJ25_init_1 13 rfl rfl)
theorem dJ25_init_38 : decode cJ25_init 38 = .ok (.ifnull 40, 3) := dk_198 0 40 (dk_at dksJ25_init_1 14 rfl rfl)
theorem dJ25_init_41 : decode cJ25_init 41 = .ok (.aload_n 1, 1) := dk_43 (dk_at dksJ25_init_1 17 rfl rfl)
theorem dJ25_init_42 : decode cJ25_init 42 = .ok (.getfield 36, 3) := dk_180 0 36 (dk_at dksJ25_init_1 18 rfl rfl)
theorem dJ25_init_45 : decode cJ25_init 45 = .ok (.ifCond .le 33, 3) := dk_158 0 33 (dk_at dksJ25_init_1 21 rfl rfl)
theorem dJ25_init_48 : decode cJ25_init 48 = .ok (.aload_n 0, 1) := dk_42 (dk_at dksJ25_init_2 0 rfl rfl)
theorem dJ25_init_49 : decode cJ25_init 49 = .ok (.getfield 33, 3) := dk_180 0 33 (dk_at dksJ25_init_2 1 rfl rfl)
theorem dJ25_init_52 : decode cJ25_init 52 = .ok (.aload_n 2, 1) := dk_44 (dk_at dksJ25_init_2 4 rfl rfl)
theorem dJ25_init_53 : decode cJ25_init 53 = .ok (.arraylength, 1) := dk_190 (dk_at dksJ25_init_2 5 rfl rfl)
theorem dJ25_init_54 : decode cJ25_init 54 = .ok (.if_icmp .ge 24, 3) := dk_162 0 24 (dk_at dksJ25_init_2 6 rfl rfl)
theorem dJ25_init_57 : decode cJ25_init 57 = .ok (.aload_n 0, 1) := dk_42 (dk_at dksJ25_init_2 9 rfl rfl)
theorem dJ25_init_58 : decode cJ25_init 58 = .ok (.aload_n 2, 1) := dk_44 (dk_at dksJ25_init_2 10 rfl rfl)
theorem dJ25_init_59 : decode cJ25_init 59 = .ok (.aload_n 0, 1) := dk_42 (dk_at dksJ25_init_2 11 rfl rfl)
theorem dJ25_init_60 : decode cJ25_init 60 = .ok (.dup, 1) := dk_89 (dk_at dksJ25_init_2 12 rfl rfl)
theorem dJ25_init_61 : decode cJ25_init 61 = .ok (.getfield 33, 3) := dk_180 0 33 (dk_at dksJ25_init_2 13 rfl rfl)
theorem dJ25_init_64 : decode cJ25_init 64 = .ok (.dup_x1, 1) := dk_90 (dk_at dksJ25_init_2 16 rfl rfl)
theorem dJ25_init_65 : decode cJ25_init 65 = .ok (.iconst 1, 1) := dk_4 (dk_at dksJ25_init_2 17 rfl rfl)
theorem dJ25_init_66 : decode cJ25_init 66 = .ok (.iadd, 1) := dk_96 (dk_at dksJ25_init_2 18 rfl rfl)
theorem dJ25_init_67 : decode cJ25_init 67 = .ok (.putfield 33, 3) := dk_181 0 33 (dk_at dksJ25_init_2 19 rfl rfl)
theorem dJ25_init_70 : decode cJ25_init 70 = .ok (.aaload, 1) := dk_50 (dk_at dksJ25_init_2 22 rfl rfl)
theorem dJ25_init_71 : decode cJ25_init 71 = .ok (.dup_x1, 1) := dk_90 (dk_at dksJ25_init_2 23 rfl rfl)
theorem dJ25_init_72 : decode cJ25_init 72 = .ok (.putfield 26, 3) := dk_181 0 26 (dk_at dksJ25_init_3 0 rfl rfl)
theorem dJ25_init_75 : decode cJ25_init 75 = .ok (.ifnull (-27), 3) := dk_198 255 229 (dk_at dksJ25_init_3 3 rfl rfl)
theorem dJ25_init_78 : decode cJ25_init 78 = .ok (.return_, 1) := dk_177 (dk_at dksJ25_init_3 6 rfl rfl)
theorem q109 : (Jvm.Cond.initialized "java/util/HashMap$HashIterator") ∈ lw_all := lw_g (lw_at lw_m1 36 rfl) rfl
theorem q197 : (Jvm.Cond.fieldLink "java/util/HashMap$HashIterator" (22 : Nat) "java/util/HashMap" "table" "[Ljava/util/HashMap$Node;") ∈ lw_all := lw_g (lw_at lw_m1 124 rfl) rfl
theorem q200 : (Jvm.Cond.fieldLink "java/util/HashMap$HashIterator" (36 : Nat) "java/util/HashMap" "size" "I") ∈ lw_all := lw_g (lw_at lw_m1 127 rfl) rfl
theorem q203 : (Jvm.Cond.fieldLink "java/util/HashMap$HashIterator" (13 : Nat) "java/util/HashMap" "modCount" "I") ∈ lw_all := lw_g (lw_at lw_m1 130 rfl) rfl
theorem q380 : (Jvm.Cond.instanceMethod ({ cls := "java/util/HashMap$HashIterator", name := "hasNext", desc := "()Z" } : Jvm.MethodName)) ∈ lw_all := lw_g (lw_at lw_m2 67 rfl) rfl
theorem q381 : (Jvm.Cond.publicMethod ({ cls := "java/util/HashMap$HashIterator", name := "hasNext", desc := "()Z" } : Jvm.MethodName)) ∈ lw_tbl := lw_at lw_m2 68 rfl
theorem q382 : (Jvm.Cond.code ({ cls := "java/util/HashMap$HashIterator", name := "hasNext", desc := "()Z" } : Jvm.MethodName) prog_61_method_2_code (1 : Nat) (Option.some Jvm.ClassFile.FieldType.boolean)) ∈ lw_all := lw_g (lw_at lw_m2 69 rfl) rfl
theorem q485 : (Jvm.Cond.declares ({ cls := "java/util/HashMap$HashIterator", name := "nextNode", desc := "()Ljava/util/HashMap$Node;" } : Jvm.MethodName)) ∈ lw_tbl := lw_at lw_m2 172 rfl
theorem q487 : (Jvm.Cond.instanceMethod ({ cls := "java/util/HashMap$HashIterator", name := "nextNode", desc := "()Ljava/util/HashMap$Node;" } : Jvm.MethodName)) ∈ lw_all := lw_g (lw_at lw_m2 174 rfl) rfl
theorem q488 : (Jvm.Cond.code ({ cls := "java/util/HashMap$HashIterator", name := "nextNode", desc := "()Ljava/util/HashMap$Node;" } : Jvm.MethodName) prog_61_method_3_code (3 : Nat) (Option.some (Jvm.ClassFile.FieldType.object "java/util/HashMap$Node"))) ∈ lw_all := lw_g (lw_at lw_m2 175 rfl) rfl
theorem q489 : (Jvm.Cond.classLink "java/util/HashMap$HashIterator" (42 : Nat) "java/util/NoSuchElementException") ∈ lw_all := lw_g (lw_at lw_m2 176 rfl) rfl
theorem q490 : (Jvm.Cond.methodLink "java/util/HashMap$HashIterator" (44 : Nat) ({ cls := "java/util/NoSuchElementException", name := "<init>", desc := "()V" } : Jvm.MethodName)) ∈ lw_all := lw_g (lw_at lw_m2 177 rfl) rfl
theorem q1029 : (Jvm.Cond.instanceMethod ({ cls := "java/util/HashMap$HashIterator", name := "<init>", desc := "(Ljava/util/HashMap;)V" } : Jvm.MethodName)) ∈ lw_all := lw_g (lw_at lw_m4 236 rfl) rfl
theorem q1030 : (Jvm.Cond.code ({ cls := "java/util/HashMap$HashIterator", name := "<init>", desc := "(Ljava/util/HashMap;)V" } : Jvm.MethodName) prog_61_method_1_code (3 : Nat) (Option.none : Option Jvm.ClassFile.FieldType)) ∈ lw_all := lw_g (lw_at lw_m4 237 rfl) rfl
theorem q1031 : (Jvm.Cond.methodLink "java/util/HashMap$HashIterator" (7 : Nat) ({ cls := "java/lang/Object", name := "<init>", desc := "()V" } : Jvm.MethodName)) ∈ lw_all := lw_g (lw_at lw_m4 238 rfl) rfl
theorem q1032 : (Jvm.Cond.fieldLink "java/util/HashMap$HashIterator" (26 : Nat) "java/util/HashMap$HashIterator" "next" "Ljava/util/HashMap$Node;") ∈ lw_all := lw_g (lw_at lw_m4 239 rfl) rfl
theorem q1033 : (Jvm.Cond.fieldLink "java/util/HashMap$HashIterator" (30 : Nat) "java/util/HashMap$HashIterator" "current" "Ljava/util/HashMap$Node;") ∈ lw_all := lw_g (lw_at lw_m5 0 rfl) rfl
theorem q1034 : (Jvm.Cond.fieldLink "java/util/HashMap$HashIterator" (19 : Nat) "java/util/HashMap$HashIterator" "expectedModCount" "I") ∈ lw_all := lw_g (lw_at lw_m5 1 rfl) rfl
theorem q1035 : (Jvm.Cond.fieldLink "java/util/HashMap$HashIterator" (33 : Nat) "java/util/HashMap$HashIterator" "index" "I") ∈ lw_all := lw_g (lw_at lw_m5 2 rfl) rfl
theorem q1036 : (Jvm.Cond.fieldLink "java/util/HashMap$HashIterator" (1 : Nat) "java/util/HashMap$HashIterator" "this$0" "Ljava/util/HashMap;") ∈ lw_all := lw_g (lw_at lw_m5 3 rfl) rfl
theorem q1192 : (Jvm.Cond.fieldLink "java/util/HashMap$HashIterator" (45 : Nat) "java/util/HashMap$Node" "next" "Ljava/util/HashMap$Node;") ∈ lw_all := lw_g (lw_at lw_m5 159 rfl) rfl
/-! java/util/HashMap$EntryIterator -/
def RJ26 : String := "java/util/HashMap$EntryIterator"
abbrev cJ26_next : ByteArray := prog_59_method_3_code
def yJ26_next : MethodName := ⟨RJ26, "next", "()Ljava/lang/Object;"⟩
theorem dJ26_next_0 : decode cJ26_next 0 = .ok (.aload_n 0, 1) := by decide +kernel
theorem dJ26_next_1 : decode cJ26_next 1 = .ok (.invokevirtual 13, 3) := by decide +kernel
theorem dJ26_next_4 : decode cJ26_next 4 = .ok (.areturn, 1) := by decide +kernel
abbrev cJ26_next_2 : ByteArray := prog_59_method_2_code
def yJ26_next_2 : MethodName := ⟨RJ26, "next", "()Ljava/util/Map$Entry;"⟩
theorem dJ26_next_2_0 : decode cJ26_next_2 0 = .ok (.aload_n 0, 1) := by decide +kernel
theorem dJ26_next_2_1 : decode cJ26_next_2 1 = .ok (.invokevirtual 7, 3) := by decide +kernel
theorem dJ26_next_2_4 : decode cJ26_next_2 4 = .ok (.areturn, 1) := by decide +kernel
abbrev cJ26_init : ByteArray := prog_59_method_1_code
def yJ26_init : MethodName := ⟨RJ26, "<init>", "(Ljava/util/HashMap;)V"⟩
def dkwJ26_init_0 : List UInt8 := [42, 43, 183, 0, 1, 177]
abbrev dktJ26_init_0 : List UInt8 := dkwJ26_init_0 ++ []
theorem dksJ26_init_0 : cJ26_init.data.toList.drop 0 = dktJ26_init_0 := by decide +kernel
theorem dJ26_init_0 : decode cJ26_init 0 = .ok (.aload_n 0, 1) := dk_42 (dk_at dksJ26_init_0 0 rfl rfl)
theorem dJ26_init_1 : decode cJ26_init 1 = .ok (.aload_n 1, 1) := dk_43 (dk_at dksJ26_init_0 1 rfl rfl)
theorem dJ26_init_2 : decode cJ26_init 2 = .ok (.invokespecial 1, 3) := dk_183 0 1 (dk_at dksJ26_init_0 2 rfl rfl)
theorem dJ26_init_5 : decode cJ26_init 5 = .ok (.return_, 1) := dk_177 (dk_at dksJ26_init_0 5 rfl rfl)
theorem q110 : (Jvm.Cond.initialized "java/util/HashMap$EntryIterator") ∈ lw_all := lw_g (lw_at lw_m1 37 rfl) rfl
theorem q377 : (Jvm.Cond.castable "java/util/HashMap$EntryIterator" "java/util/Iterator") ∈ lw_tbl := lw_at lw_m2 64 rfl
theorem q378 : (Jvm.Cond.selects "java/util/HashMap$EntryIterator" ({ cls := "java/util/Iterator", name := "hasNext", desc := "()Z" } : Jvm.MethodName) ({ cls := "java/util/HashMap$HashIterator", name := "hasNext", desc := "()Z" } : Jvm.MethodName)) ∈ lw_all := lw_g (lw_at lw_m2 65 rfl) rfl
theorem q379 : (Jvm.Cond.unhidden "java/util/HashMap$EntryIterator" "hasNext" "()Z") ∈ lw_tbl := lw_at lw_m2 66 rfl
theorem q474 : (Jvm.Cond.selects "java/util/HashMap$EntryIterator" ({ cls := "java/util/Iterator", name := "next", desc := "()Ljava/lang/Object;" } : Jvm.MethodName) ({ cls := "java/util/HashMap$EntryIterator", name := "next", desc := "()Ljava/lang/Object;" } : Jvm.MethodName)) ∈ lw_all := lw_g (lw_at lw_m2 161 rfl) rfl
theorem q475 : (Jvm.Cond.unhidden "java/util/HashMap$EntryIterator" "next" "()Ljava/lang/Object;") ∈ lw_tbl := lw_at lw_m2 162 rfl
theorem q476 : (Jvm.Cond.instanceMethod ({ cls := "java/util/HashMap$EntryIterator", name := "next", desc := "()Ljava/lang/Object;" } : Jvm.MethodName)) ∈ lw_all := lw_g (lw_at lw_m2 163 rfl) rfl
theorem q477 : (Jvm.Cond.publicMethod ({ cls := "java/util/HashMap$EntryIterator", name := "next", desc := "()Ljava/lang/Object;" } : Jvm.MethodName)) ∈ lw_tbl := lw_at lw_m2 164 rfl
theorem q478 : (Jvm.Cond.code ({ cls := "java/util/HashMap$EntryIterator", name := "next", desc := "()Ljava/lang/Object;" } : Jvm.MethodName) prog_59_method_3_code (1 : Nat) (Option.some (Jvm.ClassFile.FieldType.object "java/lang/Object"))) ∈ lw_all := lw_g (lw_at lw_m2 165 rfl) rfl
theorem q479 : (Jvm.Cond.methodLink "java/util/HashMap$EntryIterator" (13 : Nat) ({ cls := "java/util/HashMap$EntryIterator", name := "next", desc := "()Ljava/util/Map$Entry;" } : Jvm.MethodName)) ∈ lw_all := lw_g (lw_at lw_m2 166 rfl) rfl
theorem q480 : (Jvm.Cond.instanceMethod ({ cls := "java/util/HashMap$EntryIterator", name := "next", desc := "()Ljava/util/Map$Entry;" } : Jvm.MethodName)) ∈ lw_all := lw_g (lw_at lw_m2 167 rfl) rfl
theorem q481 : (Jvm.Cond.selects "java/util/HashMap$EntryIterator" ({ cls := "java/util/HashMap$EntryIterator", name := "next", desc := "()Ljava/util/Map$Entry;" } : Jvm.MethodName) ({ cls := "java/util/HashMap$EntryIterator", name := "next", desc := "()Ljava/util/Map$Entry;" } : Jvm.MethodName)) ∈ lw_all := lw_g (lw_at lw_m2 168 rfl) rfl
theorem q482 : (Jvm.Cond.code ({ cls := "java/util/HashMap$EntryIterator", name := "next", desc := "()Ljava/util/Map$Entry;" } : Jvm.MethodName) prog_59_method_2_code (1 : Nat) (Option.some (Jvm.ClassFile.FieldType.object "java/util/Map$Entry"))) ∈ lw_all := lw_g (lw_at lw_m2 169 rfl) rfl
theorem q483 : (Jvm.Cond.methodLink "java/util/HashMap$EntryIterator" (7 : Nat) ({ cls := "java/util/HashMap$EntryIterator", name := "nextNode", desc := "()Ljava/util/HashMap$Node;" } : Jvm.MethodName)) ∈ lw_all := lw_g (lw_at lw_m2 170 rfl) rfl
theorem q484 : (Jvm.Cond.sameMethod "java/util/HashMap$EntryIterator" "java/util/HashMap$HashIterator" "nextNode" "()Ljava/util/HashMap$Node;") ∈ lw_all := lw_g (lw_at lw_m2 171 rfl) rfl
theorem q486 : (Jvm.Cond.selects "java/util/HashMap$EntryIterator" ({ cls := "java/util/HashMap$EntryIterator", name := "nextNode", desc := "()Ljava/util/HashMap$Node;" } : Jvm.MethodName) ({ cls := "java/util/HashMap$HashIterator", name := "nextNode", desc := "()Ljava/util/HashMap$Node;" } : Jvm.MethodName)) ∈ lw_all := lw_g (lw_at lw_m2 173 rfl) rfl
theorem q1024 : (Jvm.Cond.instantiable "java/util/HashMap$EntryIterator" (5 : Nat)) ∈ lw_all := lw_g (lw_at lw_m4 231 rfl) rfl
theorem q1026 : (Jvm.Cond.instanceMethod ({ cls := "java/util/HashMap$EntryIterator", name := "<init>", desc := "(Ljava/util/HashMap;)V" } : Jvm.MethodName)) ∈ lw_all := lw_g (lw_at lw_m4 233 rfl) rfl
theorem q1027 : (Jvm.Cond.code ({ cls := "java/util/HashMap$EntryIterator", name := "<init>", desc := "(Ljava/util/HashMap;)V" } : Jvm.MethodName) prog_59_method_1_code (2 : Nat) (Option.none : Option Jvm.ClassFile.FieldType)) ∈ lw_all := lw_g (lw_at lw_m4 234 rfl) rfl
theorem q1028 : (Jvm.Cond.methodLink "java/util/HashMap$EntryIterator" (1 : Nat) ({ cls := "java/util/HashMap$HashIterator", name := "<init>", desc := "(Ljava/util/HashMap;)V" } : Jvm.MethodName)) ∈ lw_all := lw_g (lw_at lw_m4 235 rfl) rfl
theorem q3517 : (Jvm.Cond.castable "java/util/HashMap$EntryIterator" "java/lang/Object") ∈ lw_tbl := lw_at lw_m15 84 rfl
/-! java/util/ImmutableCollections$ListItr -/
def RJ27 : String := "java/util/ImmutableCollections$ListItr"
abbrev cJ27_hasNext : ByteArray := prog_68_method_3_code
def yJ27_hasNext : MethodName := ⟨RJ27, "hasNext", "()Z"⟩
def dkwJ27_hasNext_0 : List UInt8 := [42, 180, 0, 17, 42, 180, 0, 13, 159, 0, 7, 4, 167, 0, 4, 3, 172]
abbrev dktJ27_hasNext_0 : List UInt8 := dkwJ27_hasNext_0 ++ []
theorem dksJ27_hasNext_0 : cJ27_hasNext.data.toList.drop 0 = dktJ27_hasNext_0 := by decide +kernel
theorem dJ27_hasNext_0 : decode cJ27_hasNext 0 = .ok (.aload_n 0, 1) := dk_42 (dk_at dksJ27_hasNext_0 0 rfl rfl)
theorem dJ27_hasNext_1 : decode cJ27_hasNext 1 = .ok (.getfield 17, 3) := dk_180 0 17 (dk_at dksJ27_hasNext_0 1 rfl rfl)
theorem dJ27_hasNext_4 : decode cJ27_hasNext 4 = .ok (.aload_n 0, 1) := dk_42 (dk_at dksJ27_hasNext_0 4 rfl rfl)
theorem dJ27_hasNext_5 : decode cJ27_hasNext 5 = .ok (.getfield 13, 3) := dk_180 0 13 (dk_at dksJ27_hasNext_0 5 rfl rfl)
theorem dJ27_hasNext_8 : decode cJ27_hasNext 8 = .ok (.if_icmp .eq 7, 3) := dk_159 0 7 (dk_at dksJ27_hasNext_0 8 rfl rfl)
theorem dJ27_hasNext_11 : decode cJ27_hasNext 11 = .ok (.iconst 1, 1) := dk_4 (dk_at dksJ27_hasNext_0 11 rfl rfl)
theorem dJ27_hasNext_12 : decode cJ27_hasNext 12 = .ok (.goto 4, 3) := dk_167 0 4 (dk_at dksJ27_hasNext_0 12 rfl rfl)
theorem dJ27_hasNext_15 : decode cJ27_hasNext 15 = .ok (.iconst 0, 1) := dk_3 (dk_at dksJ27_hasNext_0 15 rfl rfl)
theorem dJ27_hasNext_16 : decode cJ27_hasNext 16 = .ok (.ireturn, 1) := dk_172 (dk_at dksJ27_hasNext_0 16 rfl rfl)
abbrev cJ27_next : ByteArray := prog_68_method_4_code
def yJ27_next : MethodName := ⟨RJ27, "next", "()Ljava/lang/Object;"⟩
def dkwJ27_next_1 : List UInt8 := [176, 76, 187, 0, 32, 89, 183, 0, 34, 191]
abbrev dktJ27_next_1 : List UInt8 := dkwJ27_next_1 ++ []
def dkwJ27_next_0 : List UInt8 := [42, 180, 0, 17, 60, 42, 180, 0, 7, 27, 185, 0, 24, 2, 0, 77, 42, 27, 4, 96, 181, 0, 17, 44]
abbrev dktJ27_next_0 : List UInt8 := dkwJ27_next_0 ++ dktJ27_next_1
theorem dksJ27_next_0 : cJ27_next.data.toList.drop 0 = dktJ27_next_0 := by decide +kernel
theorem dksJ27_next_1 : cJ27_next.data.toList.drop 24 = dktJ27_next_1 := dk_seg dksJ27_next_0 24 rfl rfl
theorem dJ27_next_0 : decode cJ27_next 0 = .ok (.aload_n 0, 1) := dk_42 (dk_at dksJ27_next_0 0 rfl rfl)
theorem dJ27_next_1 : decode cJ27_next 1 = .ok (.getfield 17, 3) := dk_180 0 17 (dk_at dksJ27_next_0 1 rfl rfl)
theorem dJ27_next_4 : decode cJ27_next 4 = .ok (.istore_n 1, 1) := dk_60 (dk_at dksJ27_next_0 4 rfl rfl)
theorem dJ27_next_5 : decode cJ27_next 5 = .ok (.aload_n 0, 1) := dk_42 (dk_at dksJ27_next_0 5 rfl rfl)
theorem dJ27_next_6 : decode cJ27_next 6 = .ok (.getfield 7, 3) := dk_180 0 7 (dk_at dksJ27_next_0 6 rfl rfl)
theorem dJ27_next_9 : decode cJ27_next 9 = .ok (.iload_n 1, 1) := dk_27 (dk_at dksJ27_next_0 9 rfl rfl)
theorem dJ27_next_10 : decode cJ27_next 10 = .ok (.invokeinterface 24 2, 5) := by decide +kernel
theorem dJ27_next_15 : decode cJ27_next 15 = .ok (.astore_n 2, 1) := dk_77 (dk_at dksJ27_next_0 15 rfl rfl)
theorem dJ27_next_16 : decode cJ27_next 16 = .ok (.aload_n 0, 1) := dk_42 (dk_at dksJ27_next_0 16 rfl rfl)
theorem dJ27_next_17 : decode cJ27_next 17 = .ok (.iload_n 1, 1) := dk_27 (dk_at dksJ27_next_0 17 rfl rfl)
theorem dJ27_next_18 : decode cJ27_next 18 = .ok (.iconst 1, 1) := dk_4 (dk_at dksJ27_next_0 18 rfl rfl)
theorem dJ27_next_19 : decode cJ27_next 19 = .ok (.iadd, 1) := dk_96 (dk_at dksJ27_next_0 19 rfl rfl)
theorem dJ27_next_20 : decode cJ27_next 20 = .ok (.putfield 17, 3) := dk_181 0 17 (dk_at dksJ27_next_0 20 rfl rfl)
theorem dJ27_next_23 : decode cJ27_next 23 = .ok (.aload_n 2, 1) := dk_44 (dk_at dksJ27_next_0 23 rfl rfl)
theorem dJ27_next_24 : decode cJ27_next 24 = .ok (.areturn, 1) := dk_176 (dk_at dksJ27_next_1 0 rfl rfl)
theorem dJ27_next_25 : decode cJ27_next 25 = .ok (.astore_n 1, 1) := dk_76 (dk_at dksJ27_next_1 1 rfl rfl)
theorem dJ27_next_26 : decode cJ27_next 26 = .ok (.new 32, 3) := dk_187 0 32 (dk_at dksJ27_next_1 2 rfl rfl)
theorem dJ27_next_29 : decode cJ27_next 29 = .ok (.dup, 1) := dk_89 (dk_at dksJ27_next_1 5 rfl rfl)
theorem dJ27_next_30 : decode cJ27_next 30 = .ok (.invokespecial 34, 3) := dk_183 0 34 (dk_at dksJ27_next_1 6 rfl rfl)
theorem dJ27_next_33 : decode cJ27_next 33 = .ok (.athrow, 1) := dk_191 (dk_at dksJ27_next_1 9 rfl rfl)
abbrev cJ27_init : ByteArray := prog_68_method_1_code
def yJ27_init : MethodName := ⟨RJ27, "<init>", "(Ljava/util/List;I)V"⟩
def dkwJ27_init_1 : List UInt8 := [177]
abbrev dktJ27_init_1 : List UInt8 := dkwJ27_init_1 ++ []
def dkwJ27_init_0 : List UInt8 := [42, 183, 0, 1, 42, 43, 181, 0, 7, 42, 28, 181, 0, 13, 42, 3, 181, 0, 17, 42, 3, 181, 0, 20]
abbrev dktJ27_init_0 : List UInt8 := dkwJ27_init_0 ++ dktJ27_init_1
theorem dksJ27_init_0 : cJ27_init.data.toList.drop 0 = dktJ27_init_0 := by decide +kernel
theorem dksJ27_init_1 : cJ27_init.data.toList.drop 24 = dktJ27_init_1 := dk_seg dksJ27_init_0 24 rfl rfl
theorem dJ27_init_0 : decode cJ27_init 0 = .ok (.aload_n 0, 1) := dk_42 (dk_at dksJ27_init_0 0 rfl rfl)
theorem dJ27_init_1 : decode cJ27_init 1 = .ok (.invokespecial 1, 3) := dk_183 0 1 (dk_at dksJ27_init_0 1 rfl rfl)
theorem dJ27_init_4 : decode cJ27_init 4 = .ok (.aload_n 0, 1) := dk_42 (dk_at dksJ27_init_0 4 rfl rfl)
theorem dJ27_init_5 : decode cJ27_init 5 = .ok (.aload_n 1, 1) := dk_43 (dk_at dksJ27_init_0 5 rfl rfl)
theorem dJ27_init_6 : decode cJ27_init 6 = .ok (.putfield 7, 3) := dk_181 0 7 (dk_at dksJ27_init_0 6 rfl rfl)
theorem dJ27_init_9 : decode cJ27_init 9 = .ok (.aload_n 0, 1) := dk_42 (dk_at dksJ27_init_0 9 rfl rfl)
theorem dJ27_init_10 : decode cJ27_init 10 = .ok (.iload_n 2, 1) := dk_28 (dk_at dksJ27_init_0 10 rfl rfl)
theorem dJ27_init_11 : decode cJ27_init 11 = .ok (.putfield 13, 3) := dk_181 0 13 (dk_at dksJ27_init_0 11 rfl rfl)
theorem dJ27_init_14 : decode cJ27_init 14 = .ok (.aload_n 0, 1) := dk_42 (dk_at dksJ27_init_0 14 rfl rfl)
theorem dJ27_init_15 : decode cJ27_init 15 = .ok (.iconst 0, 1) := dk_3 (dk_at dksJ27_init_0 15 rfl rfl)
theorem dJ27_init_16 : decode cJ27_init 16 = .ok (.putfield 17, 3) := dk_181 0 17 (dk_at dksJ27_init_0 16 rfl rfl)
theorem dJ27_init_19 : decode cJ27_init 19 = .ok (.aload_n 0, 1) := dk_42 (dk_at dksJ27_init_0 19 rfl rfl)
theorem dJ27_init_20 : decode cJ27_init 20 = .ok (.iconst 0, 1) := dk_3 (dk_at dksJ27_init_0 20 rfl rfl)
theorem dJ27_init_21 : decode cJ27_init 21 = .ok (.putfield 20, 3) := dk_181 0 20 (dk_at dksJ27_init_0 21 rfl rfl)
theorem dJ27_init_24 : decode cJ27_init 24 = .ok (.return_, 1) := dk_177 (dk_at dksJ27_init_1 0 rfl rfl)
theorem q111 : (Jvm.Cond.initialized "java/util/ImmutableCollections$ListItr") ∈ lw_all := lw_g (lw_at lw_m1 38 rfl) rfl
theorem q383 : (Jvm.Cond.castable "java/util/ImmutableCollections$ListItr" "java/util/Iterator") ∈ lw_tbl := lw_at lw_m2 70 rfl
theorem q384 : (Jvm.Cond.selects "java/util/ImmutableCollections$ListItr" ({ cls := "java/util/Iterator", name := "hasNext", desc := "()Z" } : Jvm.MethodName) ({ cls := "java/util/ImmutableCollections$ListItr", name := "hasNext", desc := "()Z" } : Jvm.MethodName)) ∈ lw_all := lw_g (lw_at lw_m2 71 rfl) rfl
theorem q385 : (Jvm.Cond.unhidden "java/util/ImmutableCollections$ListItr" "hasNext" "()Z") ∈ lw_tbl := lw_at lw_m2 72 rfl
theorem q386 : (Jvm.Cond.instanceMethod ({ cls := "java/util/ImmutableCollections$ListItr", name := "hasNext", desc := "()Z" } : Jvm.MethodName)) ∈ lw_all := lw_g (lw_at lw_m2 73 rfl) rfl
theorem q387 : (Jvm.Cond.publicMethod ({ cls := "java/util/ImmutableCollections$ListItr", name := "hasNext", desc := "()Z" } : Jvm.MethodName)) ∈ lw_tbl := lw_at lw_m2 74 rfl
theorem q388 : (Jvm.Cond.code ({ cls := "java/util/ImmutableCollections$ListItr", name := "hasNext", desc := "()Z" } : Jvm.MethodName) prog_68_method_3_code (1 : Nat) (Option.some Jvm.ClassFile.FieldType.boolean)) ∈ lw_all := lw_g (lw_at lw_m2 75 rfl) rfl
theorem q491 : (Jvm.Cond.selects "java/util/ImmutableCollections$ListItr" ({ cls := "java/util/Iterator", name := "next", desc := "()Ljava/lang/Object;" } : Jvm.MethodName) ({ cls := "java/util/ImmutableCollections$ListItr", name := "next", desc := "()Ljava/lang/Object;" } : Jvm.MethodName)) ∈ lw_all := lw_g (lw_at lw_m2 178 rfl) rfl
theorem q492 : (Jvm.Cond.unhidden "java/util/ImmutableCollections$ListItr" "next" "()Ljava/lang/Object;") ∈ lw_tbl := lw_at lw_m2 179 rfl
theorem q493 : (Jvm.Cond.instanceMethod ({ cls := "java/util/ImmutableCollections$ListItr", name := "next", desc := "()Ljava/lang/Object;" } : Jvm.MethodName)) ∈ lw_all := lw_g (lw_at lw_m2 180 rfl) rfl
theorem q494 : (Jvm.Cond.publicMethod ({ cls := "java/util/ImmutableCollections$ListItr", name := "next", desc := "()Ljava/lang/Object;" } : Jvm.MethodName)) ∈ lw_tbl := lw_at lw_m2 181 rfl
theorem q495 : (Jvm.Cond.codeWith ({ cls := "java/util/ImmutableCollections$ListItr", name := "next", desc := "()Ljava/lang/Object;" } : Jvm.MethodName) prog_68_method_4_code (3 : Nat) (Option.some (Jvm.ClassFile.FieldType.object "java/lang/Object")) [((0 : Nat), (24 : Nat), (25 : Nat), (30 : Nat))]) ∈ lw_all := lw_g (lw_at lw_m2 182 rfl) rfl
theorem q497 : (Jvm.Cond.methodLink "java/util/ImmutableCollections$ListItr" (24 : Nat) ({ cls := "java/util/List", name := "get", desc := "(I)Ljava/lang/Object;" } : Jvm.MethodName)) ∈ lw_all := lw_g (lw_at lw_m2 184 rfl) rfl
theorem q1052 : (Jvm.Cond.instantiable "java/util/ImmutableCollections$ListItr" (4 : Nat)) ∈ lw_all := lw_g (lw_at lw_m5 19 rfl) rfl
theorem q1054 : (Jvm.Cond.instanceMethod ({ cls := "java/util/ImmutableCollections$ListItr", name := "<init>", desc := "(Ljava/util/List;I)V" } : Jvm.MethodName)) ∈ lw_all := lw_g (lw_at lw_m5 21 rfl) rfl
theorem q1055 : (Jvm.Cond.code ({ cls := "java/util/ImmutableCollections$ListItr", name := "<init>", desc := "(Ljava/util/List;I)V" } : Jvm.MethodName) prog_68_method_1_code (3 : Nat) (Option.none : Option Jvm.ClassFile.FieldType)) ∈ lw_all := lw_g (lw_at lw_m5 22 rfl) rfl
theorem q1056 : (Jvm.Cond.methodLink "java/util/ImmutableCollections$ListItr" (1 : Nat) ({ cls := "java/lang/Object", name := "<init>", desc := "()V" } : Jvm.MethodName)) ∈ lw_all := lw_g (lw_at lw_m5 23 rfl) rfl
theorem q1057 : (Jvm.Cond.fieldLink "java/util/ImmutableCollections$ListItr" (7 : Nat) "java/util/ImmutableCollections$ListItr" "list" "Ljava/util/List;") ∈ lw_all := lw_g (lw_at lw_m5 24 rfl) rfl
theorem q1058 : (Jvm.Cond.fieldLink "java/util/ImmutableCollections$ListItr" (13 : Nat) "java/util/ImmutableCollections$ListItr" "size" "I") ∈ lw_all := lw_g (lw_at lw_m5 25 rfl) rfl
theorem q1059 : (Jvm.Cond.fieldLink "java/util/ImmutableCollections$ListItr" (20 : Nat) "java/util/ImmutableCollections$ListItr" "isListIterator" "Z") ∈ lw_all := lw_g (lw_at lw_m5 26 rfl) rfl
theorem q1060 : (Jvm.Cond.fieldLink "java/util/ImmutableCollections$ListItr" (17 : Nat) "java/util/ImmutableCollections$ListItr" "cursor" "I") ∈ lw_all := lw_g (lw_at lw_m5 27 rfl) rfl
theorem q3533 : (Jvm.Cond.castable "java/util/ImmutableCollections$ListItr" "java/lang/Object") ∈ lw_tbl := lw_at lw_m15 100 rfl
/-! java/lang/StrictMath -/
def RJ28 : String := "java/lang/StrictMath"
abbrev cJ28_ceil : ByteArray := prog_38_method_16_code
def yJ28_ceil : MethodName := ⟨RJ28, "ceil", "(D)D"⟩
def dkwJ28_ceil_0 : List UInt8 := [38, 20, 0, 58, 15, 15, 184, 0, 60, 175]
abbrev dktJ28_ceil_0 : List UInt8 := dkwJ28_ceil_0 ++ []
theorem dksJ28_ceil_0 : cJ28_ceil.data.toList.drop 0 = dktJ28_ceil_0 := by decide +kernel
theorem dJ28_ceil_0 : decode cJ28_ceil 0 = .ok (.dload_n 0, 1) := dk_38 (dk_at dksJ28_ceil_0 0 rfl rfl)
theorem dJ28_ceil_1 : decode cJ28_ceil 1 = .ok (.ldc2_w 58, 3) := dk_20 0 58 (dk_at dksJ28_ceil_0 1 rfl rfl)
theorem dJ28_ceil_4 : decode cJ28_ceil 4 = .ok (.dconst 1, 1) := dk_15 (dk_at dksJ28_ceil_0 4 rfl rfl)
theorem dJ28_ceil_5 : decode cJ28_ceil 5 = .ok (.dconst 1, 1) := dk_15 (dk_at dksJ28_ceil_0 5 rfl rfl)
theorem dJ28_ceil_6 : decode cJ28_ceil 6 = .ok (.invokestatic 60, 3) := dk_184 0 60 (dk_at dksJ28_ceil_0 6 rfl rfl)
theorem dJ28_ceil_9 : decode cJ28_ceil 9 = .ok (.dreturn, 1) := dk_175 (dk_at dksJ28_ceil_0 9 rfl rfl)
abbrev cJ28_floorOrCeil : ByteArray := prog_38_method_18_code
def yJ28_floorOrCeil : MethodName := ⟨RJ28, "floorOrCeil", "(DDDD)D"⟩
def dkwJ28_floorOrCeil_5 : List UInt8 := [24, 13, 24, 6, 99, 57, 13, 24, 13, 175]
abbrev dktJ28_floorOrCeil_5 : List UInt8 := dkwJ28_floorOrCeil_5 ++ []
def dkwJ28_floorOrCeil_4 : List UInt8 := [175, 22, 9, 22, 11, 20, 0, 87, 131, 127, 184, 0, 89, 57, 13, 24, 6, 38, 107, 14, 151, 158, 0, 10]
abbrev dktJ28_floorOrCeil_4 : List UInt8 := dkwJ28_floorOrCeil_4 ++ dktJ28_floorOrCeil_5
def dkwJ28_floorOrCeil_3 : List UInt8 := [184, 0, 77, 55, 9, 20, 0, 85, 21, 8, 123, 55, 11, 22, 11, 22, 9, 127, 9, 148, 154, 0, 5, 38]
abbrev dktJ28_floorOrCeil_3 : List UInt8 := dkwJ28_floorOrCeil_3 ++ dktJ28_floorOrCeil_4
def dkwJ28_floorOrCeil_2 : List UInt8 := [154, 0, 23, 21, 8, 155, 0, 10, 21, 8, 16, 51, 164, 0, 11, 187, 0, 74, 89, 183, 0, 76, 191, 38]
abbrev dktJ28_floorOrCeil_2 : List UInt8 := dkwJ28_floorOrCeil_2 ++ dktJ28_floorOrCeil_3
def dkwJ28_floorOrCeil_1 : List UInt8 := [156, 0, 7, 40, 167, 0, 5, 24, 4, 175, 21, 8, 16, 52, 161, 0, 5, 38, 175, 178, 0, 70]
abbrev dktJ28_floorOrCeil_1 : List UInt8 := dkwJ28_floorOrCeil_1 ++ dktJ28_floorOrCeil_2
def dkwJ28_floorOrCeil_0 : List UInt8 := [38, 184, 0, 66, 54, 8, 21, 8, 156, 0, 26, 38, 14, 151, 154, 0, 7, 38, 167, 0, 15, 38, 14, 152]
abbrev dktJ28_floorOrCeil_0 : List UInt8 := dkwJ28_floorOrCeil_0 ++ dktJ28_floorOrCeil_1
theorem dksJ28_floorOrCeil_0 : cJ28_floorOrCeil.data.toList.drop 0 = dktJ28_floorOrCeil_0 := by decide +kernel
theorem dksJ28_floorOrCeil_1 : cJ28_floorOrCeil.data.toList.drop 24 = dktJ28_floorOrCeil_1 := dk_seg dksJ28_floorOrCeil_0 24 rfl rfl
theorem dksJ28_floorOrCeil_2 : cJ28_floorOrCeil.data.toList.drop 46 = dktJ28_floorOrCeil_2 := dk_seg dksJ28_floorOrCeil_1 22 rfl rfl
theorem dksJ28_floorOrCeil_3 : cJ28_floorOrCeil.data.toList.drop 70 = dktJ28_floorOrCeil_3 := dk_seg dksJ28_floorOrCeil_2 24 rfl rfl
theorem dksJ28_floorOrCeil_4 : cJ28_floorOrCeil.data.toList.drop 94 = dktJ28_floorOrCeil_4 := dk_seg dksJ28_floorOrCeil_3 24 rfl rfl
theorem dksJ28_floorOrCeil_5 : cJ28_floorOrCeil.data.toList.drop 118 = dktJ28_floorOrCeil_5 := dk_seg dksJ28_floorOrCeil_4 24 rfl rfl
theorem dJ28_floorOrCeil_0 : decode cJ28_floorOrCeil 0 = .ok (.dload_n 0, 1) := dk_38 (dk_at dksJ28_floorOrCeil_0 0 rfl rfl)
theorem dJ28_floorOrCeil_1 : decode cJ28_floorOrCeil 1 = .ok (.invokestatic 66, 3) := dk_184 0 66 (dk_at dksJ28_floorOrCeil_0 1 rfl rfl)
theorem dJ28_floorOrCeil_4 : decode cJ28_floorOrCeil 4 = .ok (.istore 8, 2) := dk_54 8 (dk_at dksJ28_floorOrCeil_0 4 rfl rfl)
theorem dJ28_floorOrCeil_6 : decode cJ28_floorOrCeil 6 = .ok (.iload 8, 2) := dk_21 8 (dk_at dksJ28_floorOrCeil_0 6 rfl rfl)
theorem dJ28_floorOrCeil_8 : decode cJ28_floorOrCeil 8 = .ok (.ifCond .ge 26, 3) := dk_156 0 26 (dk_at dksJ28_floorOrCeil_0 8 rfl rfl)
theorem dJ28_floorOrCeil_11 : decode cJ28_floorOrCeil 11 = .ok (.dload_n 0, 1) := dk_38 (dk_at dksJ28_floorOrCeil_0 11 rfl rfl)
theorem dJ28_floorOrCeil_12 : decode cJ28_floorOrCeil 12 = .ok (.dconst 0, 1) := dk_14 (dk_at dksJ28_floorOrCeil_0 12 rfl rfl)
theorem dJ28_floorOrCeil_13 : decode cJ28_floorOrCeil 13 = .ok (.dcmp .l, 1) := dk_151 (dk_at dksJ28_floorOrCeil_0 13 rfl rfl)
theorem dJ28_floorOrCeil_14 : decode cJ28_floorOrCeil 14 = .ok (.ifCond .ne 7, 3) := dk_154 0 7 (dk_at dksJ28_floorOrCeil_0 14 rfl rfl)
theorem dJ28_floorOrCeil_17 : decode cJ28_floorOrCeil 17 = .ok (.dload_n 0, 1) := dk_38 (dk_at dksJ28_floorOrCeil_0 17 rfl rfl)
theorem dJ28_floorOrCeil_18 : decode cJ28_floorOrCeil 18 = .ok (.goto 15, 3) := dk_167 0 15 (dk_at dksJ28_floorOrCeil_0 18 rfl rfl)
theorem dJ28_floorOrCeil_21 : decode cJ28_floorOrCeil 21 = .ok (.dload_n 0, 1) := dk_38 (dk_at dksJ28_floorOrCeil_0 21 rfl rfl)
theorem dJ28_floorOrCeil_22 : decode cJ28_floorOrCeil 22 = .ok (.dconst 0, 1) := dk_14 (dk_at dksJ28_floorOrCeil_0 22 rfl rfl)
theorem dJ28_floorOrCeil_23 : decode cJ28_floorOrCeil 23 = .ok (.dcmp .g, 1) := dk_152 (dk_at dksJ28_floorOrCeil_0 23 rfl rfl)
theorem dJ28_floorOrCeil_24 : decode cJ28_floorOrCeil 24 = .ok (.ifCond .ge 7, 3) := dk_156 0 7 (dk_at dksJ28_floorOrCeil_1 0 rfl rfl)
theorem dJ28_floorOrCeil_27 : decode cJ28_floorOrCeil 27 = .ok (.dload_n 2, 1) := dk_40 (dk_at dksJ28_floorOrCeil_1 3 rfl rfl)
theorem dJ28_floorOrCeil_28 : decode cJ28_floorOrCeil 28 = .ok (.goto 5, 3) := dk_167 0 5 (dk_at dksJ28_floorOrCeil_1 4 rfl rfl)
theorem dJ28_floorOrCeil_31 : decode cJ28_floorOrCeil 31 = .ok (.dload 4, 2) := dk_24 4 (dk_at dksJ28_floorOrCeil_1 7 rfl rfl)
theorem dJ28_floorOrCeil_33 : decode cJ28_floorOrCeil 33 = .ok (.dreturn, 1) := dk_175 (dk_at dksJ28_floorOrCeil_1 9 rfl rfl)
theorem dJ28_floorOrCeil_34 : decode cJ28_floorOrCeil 34 = .ok (.iload 8, 2) := dk_21 8 (dk_at dksJ28_floorOrCeil_1 10 rfl rfl)
theorem dJ28_floorOrCeil_36 : decode cJ28_floorOrCeil 36 = .ok (.bipush 52, 2) := dk_16 52 (dk_at dksJ28_floorOrCeil_1 12 rfl rfl)
theorem dJ28_floorOrCeil_38 : decode cJ28_floorOrCeil 38 = .ok (.if_icmp .lt 5, 3) := dk_161 0 5 (dk_at dksJ28_floorOrCeil_1 14 rfl rfl)
theorem dJ28_floorOrCeil_41 : decode cJ28_floorOrCeil 41 = .ok (.dload_n 0, 1) := dk_38 (dk_at dksJ28_floorOrCeil_1 17 rfl rfl)
theorem dJ28_floorOrCeil_42 : decode cJ28_floorOrCeil 42 = .ok (.dreturn, 1) := dk_175 (dk_at dksJ28_floorOrCeil_1 18 rfl rfl)
theorem dJ28_floorOrCeil_43 : decode cJ28_floorOrCeil 43 = .ok (.getstatic 70, 3) := dk_178 0 70 (dk_at dksJ28_floorOrCeil_1 19 rfl rfl)
theorem dJ28_floorOrCeil_46 : decode cJ28_floorOrCeil 46 = .ok (.ifCond .ne 23, 3) := dk_154 0 23 (dk_at dksJ28_floorOrCeil_2 0 rfl rfl)
theorem dJ28_floorOrCeil_49 : decode cJ28_floorOrCeil 49 = .ok (.iload 8, 2) := dk_21 8 (dk_at dksJ28_floorOrCeil_2 3 rfl rfl)
theorem dJ28_floorOrCeil_51 : decode cJ28_floorOrCeil 51 = .ok (.ifCond .lt 10, 3) := dk_155 0 10 (dk_at dksJ28_floorOrCeil_2 5 rfl rfl)
theorem dJ28_floorOrCeil_54 : decode cJ28_floorOrCeil 54 = .ok (.iload 8, 2) := dk_21 8 (dk_at dksJ28_floorOrCeil_2 8 rfl rfl)
theorem dJ28_floorOrCeil_56 : decode cJ28_floorOrCeil 56 = .ok (.bipush 51, 2) := dk_16 51 (dk_at dksJ28_floorOrCeil_2 10 rfl rfl)
theorem dJ28_floorOrCeil_58 : decode cJ28_floorOrCeil 58 = .ok (.if_icmp .le 11, 3) := dk_164 0 11 (dk_at dksJ28_floorOrCeil_2 12 rfl rfl)
theorem dJ28_floorOrCeil_61 : decode cJ28_floorOrCeil 61 = .ok (.new 74, 3) := dk_187 0 74 (dk_at dksJ28_floorOrCeil_2 15 rfl rfl)
theorem dJ28_floorOrCeil_64 : decode cJ28_floorOrCeil 64 = .ok (.dup, 1) := dk_89 (dk_at dksJ28_floorOrCeil_2 18 rfl rfl)
theorem dJ28_floorOrCeil_65 : decode cJ28_floorOrCeil 65 = .ok (.invokespecial 76, 3) := dk_183 0 76 (dk_at dksJ28_floorOrCeil_2 19 rfl rfl)
theorem dJ28_floorOrCeil_68 : decode cJ28_floorOrCeil 68 = .ok (.athrow, 1) := dk_191 (dk_at dksJ28_floorOrCeil_2 22 rfl rfl)
theorem dJ28_floorOrCeil_69 : decode cJ28_floorOrCeil 69 = .ok (.dload_n 0, 1) := dk_38 (dk_at dksJ28_floorOrCeil_2 23 rfl rfl)
theorem dJ28_floorOrCeil_70 : decode cJ28_floorOrCeil 70 = .ok (.invokestatic 77, 3) := dk_184 0 77 (dk_at dksJ28_floorOrCeil_3 0 rfl rfl)
theorem dJ28_floorOrCeil_73 : decode cJ28_floorOrCeil 73 = .ok (.lstore 9, 2) := dk_55 9 (dk_at dksJ28_floorOrCeil_3 3 rfl rfl)
theorem dJ28_floorOrCeil_75 : decode cJ28_floorOrCeil 75 = .ok (.ldc2_w 85, 3) := dk_20 0 85 (dk_at dksJ28_floorOrCeil_3 5 rfl rfl)
theorem dJ28_floorOrCeil_78 : decode cJ28_floorOrCeil 78 = .ok (.iload 8, 2) := dk_21 8 (dk_at dksJ28_floorOrCeil_3 8 rfl rfl)
theorem dJ28_floorOrCeil_80 : decode cJ28_floorOrCeil 80 = .ok (.lshr, 1) := dk_123 (dk_at dksJ28_floorOrCeil_3 10 rfl rfl)
theorem dJ28_floorOrCeil_81 : decode cJ28_floorOrCeil 81 = .ok (.lstore 11, 2) := dk_55 11 (dk_at dksJ28_floorOrCeil_3 11 rfl rfl)
theorem dJ28_floorOrCeil_83 : decode cJ28_floorOrCeil 83 = .ok (.lload 11, 2) := dk_22 11 (dk_at dksJ28_floorOrCeil_3 13 rfl rfl)
theorem dJ28_floorOrCeil_85 : decode cJ28_floorOrCeil 85 = .ok (.lload 9, 2) := dk_22 9 (dk_at dksJ28_floorOrCeil_3 15 rfl rfl)
theorem dJ28_floorOrCeil_87 : decode cJ28_floorOrCeil 87 = .ok (.land, 1) := dk_127 (dk_at dksJ28_floorOrCeil_3 17 rfl rfl)
theorem dJ28_floorOrCeil_88 : decode cJ28_floorOrCeil 88 = .ok (.lconst 0, 1) := dk_9 (dk_at dksJ28_floorOrCeil_3 18 rfl rfl)
theorem dJ28_floorOrCeil_89 : decode cJ28_floorOrCeil 89 = .ok (.lcmp, 1) := dk_148 (dk_at dksJ28_floorOrCeil_3 19 rfl rfl)
theorem dJ28_floorOrCeil_90 : decode cJ28_floorOrCeil 90 = .ok (.ifCond .ne 5, 3) := dk_154 0 5 (dk_at dksJ28_floorOrCeil_3 20 rfl rfl)
theorem dJ28_floorOrCeil_93 : decode cJ28_floorOrCeil 93 = .ok (.dload_n 0, 1) := dk_38 (dk_at dksJ28_floorOrCeil_3 23 rfl rfl)
theorem dJ28_floorOrCeil_94 : decode cJ28_floorOrCeil 94 = .ok (.dreturn, 1) := dk_175 (dk_at dksJ28_floorOrCeil_4 0 rfl rfl)
theorem dJ28_floorOrCeil_95 : decode cJ28_floorOrCeil 95 = .ok (.lload 9, 2) := dk_22 9 (dk_at dksJ28_floorOrCeil_4 1 rfl rfl)
theorem dJ28_floorOrCeil_97 : decode cJ28_floorOrCeil 97 = .ok (.lload 11, 2) := dk_22 11 (dk_at dksJ28_floorOrCeil_4 3 rfl rfl)
theorem dJ28_floorOrCeil_99 : decode cJ28_floorOrCeil 99 = .ok (.ldc2_w 87, 3) := dk_20 0 87 (dk_at dksJ28_floorOrCeil_4 5 rfl rfl)
theorem dJ28_floorOrCeil_102 : decode cJ28_floorOrCeil 102 = .ok (.lxor, 1) := dk_131 (dk_at dksJ28_floorOrCeil_4 8 rfl rfl)
theorem dJ28_floorOrCeil_103 : decode cJ28_floorOrCeil 103 = .ok (.land, 1) := dk_127 (dk_at dksJ28_floorOrCeil_4 9 rfl rfl)
theorem dJ28_floorOrCeil_104 : decode cJ28_floorOrCeil 104 = .ok (.invokestatic 89, 3) := dk_184 0 89 (dk_at dksJ28_floorOrCeil_4 10 rfl rfl)
theorem dJ28_floorOrCeil_107 : decode cJ28_floorOrCeil 107 = .ok (.dstore 13, 2) := dk_57 13 (dk_at dksJ28_floorOrCeil_4 13 rfl rfl)
theorem dJ28_floorOrCeil_109 : decode cJ28_floorOrCeil 109 = .ok (.dload 6, 2) := dk_24 6 (dk_at dksJ28_floorOrCeil_4 15 rfl rfl)
theorem dJ28_floorOrCeil_111 : decode cJ28_floorOrCeil 111 = .ok (.dload_n 0, 1) := dk_38 (dk_at dksJ28_floorOrCeil_4 17 rfl rfl)
theorem dJ28_floorOrCeil_112 : decode cJ28_floorOrCeil 112 = .ok (.dmul, 1) := dk_107 (dk_at dksJ28_floorOrCeil_4 18 rfl rfl)
theorem dJ28_floorOrCeil_113 : decode cJ28_floorOrCeil 113 = .ok (.dconst 0, 1) := dk_14 (dk_at dksJ28_floorOrCeil_4 19 rfl rfl)
theorem dJ28_floorOrCeil_114 : decode cJ28_floorOrCeil 114 = .ok (.dcmp .l, 1) := dk_151 (dk_at dksJ28_floorOrCeil_4 20 rfl rfl)
theorem dJ28_floorOrCeil_115 : decode cJ28_floorOrCeil 115 = .ok (.ifCond .le 10, 3) := dk_158 0 10 (dk_at dksJ28_floorOrCeil_4 21 rfl rfl)
theorem dJ28_floorOrCeil_118 : decode cJ28_floorOrCeil 118 = .ok (.dload 13, 2) := dk_24 13 (dk_at dksJ28_floorOrCeil_5 0 rfl rfl)
theorem dJ28_floorOrCeil_120 : decode cJ28_floorOrCeil 120 = .ok (.dload 6, 2) := dk_24 6 (dk_at dksJ28_floorOrCeil_5 2 rfl rfl)
theorem dJ28_floorOrCeil_122 : decode cJ28_floorOrCeil 122 = .ok (.dadd, 1) := dk_99 (dk_at dksJ28_floorOrCeil_5 4 rfl rfl)
theorem dJ28_floorOrCeil_123 : decode cJ28_floorOrCeil 123 = .ok (.dstore 13, 2) := dk_57 13 (dk_at dksJ28_floorOrCeil_5 5 rfl rfl)
theorem dJ28_floorOrCeil_125 : decode cJ28_floorOrCeil 125 = .ok (.dload 13, 2) := dk_24 13 (dk_at dksJ28_floorOrCeil_5 7 rfl rfl)
theorem dJ28_floorOrCeil_127 : decode cJ28_floorOrCeil 127 = .ok (.dreturn, 1) := dk_175 (dk_at dksJ28_floorOrCeil_5 9 rfl rfl)
theorem q112 : (Jvm.Cond.initialized "java/lang/StrictMath") ∈ lw_all := lw_g (lw_at lw_m1 39 rfl) rfl
theorem q1124 : (Jvm.Cond.code ({ cls := "java/lang/StrictMath", name := "ceil", desc := "(D)D" } : Jvm.MethodName) prog_38_method_16_code (2 : Nat) (Option.some Jvm.ClassFile.FieldType.double)) ∈ lw_all := lw_g (lw_at lw_m5 91 rfl) rfl
theorem q1125 : (Jvm.Cond.constantDouble "java/lang/StrictMath" (58 : Nat) (9223372036854775808 : UInt64)) ∈ lw_all := lw_g (lw_at lw_m5 92 rfl) rfl
theorem q1126 : (Jvm.Cond.methodLink "java/lang/StrictMath" (60 : Nat) ({ cls := "java/lang/StrictMath", name := "floorOrCeil", desc := "(DDDD)D" } : Jvm.MethodName)) ∈ lw_all := lw_g (lw_at lw_m5 93 rfl) rfl
theorem q1127 : (Jvm.Cond.static ({ cls := "java/lang/StrictMath", name := "floorOrCeil", desc := "(DDDD)D" } : Jvm.MethodName)) ∈ lw_all := lw_g (lw_at lw_m5 94 rfl) rfl
theorem q1128 : (Jvm.Cond.code ({ cls := "java/lang/StrictMath", name := "floorOrCeil", desc := "(DDDD)D" } : Jvm.MethodName) prog_38_method_18_code (15 : Nat) (Option.some Jvm.ClassFile.FieldType.double)) ∈ lw_all := lw_g (lw_at lw_m5 95 rfl) rfl
theorem q1129 : (Jvm.Cond.methodLink "java/lang/StrictMath" (66 : Nat) ({ cls := "java/lang/Math", name := "getExponent", desc := "(D)I" } : Jvm.MethodName)) ∈ lw_all := lw_g (lw_at lw_m5 96 rfl) rfl
theorem q1137 : (Jvm.Cond.fieldLink "java/lang/StrictMath" (70 : Nat) "java/lang/StrictMath" "$assertionsDisabled" "Z") ∈ lw_all := lw_g (lw_at lw_m5 104 rfl) rfl
theorem q1139 : (Jvm.Cond.methodLink "java/lang/StrictMath" (77 : Nat) ({ cls := "java/lang/Double", name := "doubleToRawLongBits", desc := "(D)J" } : Jvm.MethodName)) ∈ lw_all := lw_g (lw_at lw_m5 106 rfl) rfl
theorem q1140 : (Jvm.Cond.constantLong "java/lang/StrictMath" (85 : Nat) (4503599627370495 : Int64)) ∈ lw_all := lw_g (lw_at lw_m5 107 rfl) rfl
theorem q1141 : (Jvm.Cond.constantLong "java/lang/StrictMath" (87 : Nat) (-1 : Int64)) ∈ lw_all := lw_g (lw_at lw_m5 108 rfl) rfl
theorem q1142 : (Jvm.Cond.methodLink "java/lang/StrictMath" (89 : Nat) ({ cls := "java/lang/Double", name := "longBitsToDouble", desc := "(J)D" } : Jvm.MethodName)) ∈ lw_all := lw_g (lw_at lw_m5 109 rfl) rfl
/-! java/util/HashMap$Node -/
def RJ29 : String := "java/util/HashMap$Node"
abbrev cJ29_init : ByteArray := prog_62_method_1_code
def yJ29_init : MethodName := ⟨RJ29, "<init>", "(ILjava/lang/Object;Ljava/lang/Object;Ljava/util/HashMap$Node;)V"⟩
def dkwJ29_init_1 : List UInt8 := [181, 0, 20, 177]
abbrev dktJ29_init_1 : List UInt8 := dkwJ29_init_1 ++ []
def dkwJ29_init_0 : List UInt8 := [42, 183, 0, 1, 42, 27, 181, 0, 7, 42, 44, 181, 0, 13, 42, 45, 181, 0, 17, 42, 25, 4]
abbrev dktJ29_init_0 : List UInt8 := dkwJ29_init_0 ++ dktJ29_init_1
theorem dksJ29_init_0 : cJ29_init.data.toList.drop 0 = dktJ29_init_0 := by decide +kernel
theorem dksJ29_init_1 : cJ29_init.data.toList.drop 22 = dktJ29_init_1 := dk_seg dksJ29_init_0 22 rfl rfl
theorem dJ29_init_0 : decode cJ29_init 0 = .ok (.aload_n 0, 1) := dk_42 (dk_at dksJ29_init_0 0 rfl rfl)
theorem dJ29_init_1 : decode cJ29_init 1 = .ok (.invokespecial 1, 3) := dk_183 0 1 (dk_at dksJ29_init_0 1 rfl rfl)
theorem dJ29_init_4 : decode cJ29_init 4 = .ok (.aload_n 0, 1) := dk_42 (dk_at dksJ29_init_0 4 rfl rfl)
theorem dJ29_init_5 : decode cJ29_init 5 = .ok (.iload_n 1, 1) := dk_27 (dk_at dksJ29_init_0 5 rfl rfl)
theorem dJ29_init_6 : decode cJ29_init 6 = .ok (.putfield 7, 3) := dk_181 0 7 (dk_at dksJ29_init_0 6 rfl rfl)
theorem dJ29_init_9 : decode cJ29_init 9 = .ok (.aload_n 0, 1) := dk_42 (dk_at dksJ29_init_0 9 rfl rfl)
theorem dJ29_init_10 : decode cJ29_init 10 = .ok (.aload_n 2, 1) := dk_44 (dk_at dksJ29_init_0 10 rfl rfl)
theorem dJ29_init_11 : decode cJ29_init 11 = .ok (.putfield 13, 3) := dk_181 0 13 (dk_at dksJ29_init_0 11 rfl rfl)
theorem dJ29_init_14 : decode cJ29_init 14 = .ok (.aload_n 0, 1) := dk_42 (dk_at dksJ29_init_0 14 rfl rfl)
theorem dJ29_init_15 : decode cJ29_init 15 = .ok (.aload_n 3, 1) := dk_45 (dk_at dksJ29_init_0 15 rfl rfl)
theorem dJ29_init_16 : decode cJ29_init 16 = .ok (.putfield 17, 3) := dk_181 0 17 (dk_at dksJ29_init_0 16 rfl rfl)
theorem dJ29_init_19 : decode cJ29_init 19 = .ok (.aload_n 0, 1) := dk_42 (dk_at dksJ29_init_0 19 rfl rfl)
theorem dJ29_init_20 : decode cJ29_init 20 = .ok (.aload 4, 2) := dk_25 4 (dk_at dksJ29_init_0 20 rfl rfl)
theorem dJ29_init_22 : decode cJ29_init 22 = .ok (.putfield 20, 3) := dk_181 0 20 (dk_at dksJ29_init_1 0 rfl rfl)
theorem dJ29_init_25 : decode cJ29_init 25 = .ok (.return_, 1) := dk_177 (dk_at dksJ29_init_1 3 rfl rfl)
abbrev cJ29_getKey : ByteArray := prog_62_method_2_code
def yJ29_getKey : MethodName := ⟨RJ29, "getKey", "()Ljava/lang/Object;"⟩
theorem dJ29_getKey_0 : decode cJ29_getKey 0 = .ok (.aload_n 0, 1) := by decide +kernel
theorem dJ29_getKey_1 : decode cJ29_getKey 1 = .ok (.getfield 13, 3) := by decide +kernel
theorem dJ29_getKey_4 : decode cJ29_getKey 4 = .ok (.areturn, 1) := by decide +kernel
abbrev cJ29_getValue : ByteArray := prog_62_method_3_code
def yJ29_getValue : MethodName := ⟨RJ29, "getValue", "()Ljava/lang/Object;"⟩
theorem dJ29_getValue_0 : decode cJ29_getValue 0 = .ok (.aload_n 0, 1) := by decide +kernel
theorem dJ29_getValue_1 : decode cJ29_getValue 1 = .ok (.getfield 17, 3) := by decide +kernel
theorem dJ29_getValue_4 : decode cJ29_getValue 4 = .ok (.areturn, 1) := by decide +kernel
theorem q114 : (Jvm.Cond.initialized "java/util/HashMap$Node") ∈ lw_all := lw_g (lw_at lw_m1 41 rfl) rfl
theorem q1176 : (Jvm.Cond.instantiable "java/util/HashMap$Node" (4 : Nat)) ∈ lw_all := lw_g (lw_at lw_m5 143 rfl) rfl
theorem q1178 : (Jvm.Cond.instanceMethod ({ cls := "java/util/HashMap$Node", name := "<init>", desc := "(ILjava/lang/Object;Ljava/lang/Object;Ljava/util/HashMap$Node;)V" } : Jvm.MethodName)) ∈ lw_all := lw_g (lw_at lw_m5 145 rfl) rfl
theorem q1179 : (Jvm.Cond.code ({ cls := "java/util/HashMap$Node", name := "<init>", desc := "(ILjava/lang/Object;Ljava/lang/Object;Ljava/util/HashMap$Node;)V" } : Jvm.MethodName) prog_62_method_1_code (5 : Nat) (Option.none : Option Jvm.ClassFile.FieldType)) ∈ lw_all := lw_g (lw_at lw_m5 146 rfl) rfl
theorem q1180 : (Jvm.Cond.methodLink "java/util/HashMap$Node" (1 : Nat) ({ cls := "java/lang/Object", name := "<init>", desc := "()V" } : Jvm.MethodName)) ∈ lw_all := lw_g (lw_at lw_m5 147 rfl) rfl
theorem q1181 : (Jvm.Cond.fieldLink "java/util/HashMap$Node" (7 : Nat) "java/util/HashMap$Node" "hash" "I") ∈ lw_all := lw_g (lw_at lw_m5 148 rfl) rfl
theorem q1185 : (Jvm.Cond.fieldLink "java/util/HashMap$Node" (13 : Nat) "java/util/HashMap$Node" "key" "Ljava/lang/Object;") ∈ lw_all := lw_g (lw_at lw_m5 152 rfl) rfl
theorem q1189 : (Jvm.Cond.fieldLink "java/util/HashMap$Node" (17 : Nat) "java/util/HashMap$Node" "value" "Ljava/lang/Object;") ∈ lw_all := lw_g (lw_at lw_m5 156 rfl) rfl
theorem q1191 : (Jvm.Cond.fieldLink "java/util/HashMap$Node" (20 : Nat) "java/util/HashMap$Node" "next" "Ljava/util/HashMap$Node;") ∈ lw_all := lw_g (lw_at lw_m5 158 rfl) rfl
theorem q1467 : (Jvm.Cond.castable "java/util/HashMap$Node" "java/util/Map$Entry") ∈ lw_tbl := lw_at lw_m6 194 rfl
theorem q1468 : (Jvm.Cond.selects "java/util/HashMap$Node" ({ cls := "java/util/Map$Entry", name := "getKey", desc := "()Ljava/lang/Object;" } : Jvm.MethodName) ({ cls := "java/util/HashMap$Node", name := "getKey", desc := "()Ljava/lang/Object;" } : Jvm.MethodName)) ∈ lw_all := lw_g (lw_at lw_m6 195 rfl) rfl
theorem q1469 : (Jvm.Cond.unhidden "java/util/HashMap$Node" "getKey" "()Ljava/lang/Object;") ∈ lw_tbl := lw_at lw_m6 196 rfl
theorem q1470 : (Jvm.Cond.instanceMethod ({ cls := "java/util/HashMap$Node", name := "getKey", desc := "()Ljava/lang/Object;" } : Jvm.MethodName)) ∈ lw_all := lw_g (lw_at lw_m6 197 rfl) rfl
theorem q1471 : (Jvm.Cond.publicMethod ({ cls := "java/util/HashMap$Node", name := "getKey", desc := "()Ljava/lang/Object;" } : Jvm.MethodName)) ∈ lw_tbl := lw_at lw_m6 198 rfl
theorem q1472 : (Jvm.Cond.code ({ cls := "java/util/HashMap$Node", name := "getKey", desc := "()Ljava/lang/Object;" } : Jvm.MethodName) prog_62_method_2_code (1 : Nat) (Option.some (Jvm.ClassFile.FieldType.object "java/lang/Object"))) ∈ lw_all := lw_g (lw_at lw_m6 199 rfl) rfl
theorem q1480 : (Jvm.Cond.selects "java/util/HashMap$Node" ({ cls := "java/util/Map$Entry", name := "getValue", desc := "()Ljava/lang/Object;" } : Jvm.MethodName) ({ cls := "java/util/HashMap$Node", name := "getValue", desc := "()Ljava/lang/Object;" } : Jvm.MethodName)) ∈ lw_all := lw_g (lw_at lw_m6 207 rfl) rfl
theorem q1481 : (Jvm.Cond.unhidden "java/util/HashMap$Node" "getValue" "()Ljava/lang/Object;") ∈ lw_tbl := lw_at lw_m6 208 rfl
theorem q1482 : (Jvm.Cond.instanceMethod ({ cls := "java/util/HashMap$Node", name := "getValue", desc := "()Ljava/lang/Object;" } : Jvm.MethodName)) ∈ lw_all := lw_g (lw_at lw_m6 209 rfl) rfl
theorem q1483 : (Jvm.Cond.publicMethod ({ cls := "java/util/HashMap$Node", name := "getValue", desc := "()Ljava/lang/Object;" } : Jvm.MethodName)) ∈ lw_tbl := lw_at lw_m6 210 rfl
theorem q1484 : (Jvm.Cond.code ({ cls := "java/util/HashMap$Node", name := "getValue", desc := "()Ljava/lang/Object;" } : Jvm.MethodName) prog_62_method_3_code (1 : Nat) (Option.some (Jvm.ClassFile.FieldType.object "java/lang/Object"))) ∈ lw_all := lw_g (lw_at lw_m6 211 rfl) rfl
theorem q3501 : (Jvm.Cond.castable "java/util/HashMap$Node" "java/lang/Object") ∈ lw_tbl := lw_at lw_m15 68 rfl
/-! java/util/AbstractSet -/
def RJ34 : String := "java/util/AbstractSet"
abbrev cJ34_init : ByteArray := prog_53_method_1_code
def yJ34_init : MethodName := ⟨RJ34, "<init>", "()V"⟩
theorem dJ34_init_0 : decode cJ34_init 0 = .ok (.aload_n 0, 1) := by decide +kernel
theorem dJ34_init_1 : decode cJ34_init 1 = .ok (.invokespecial 1, 3) := by decide +kernel
theorem dJ34_init_4 : decode cJ34_init 4 = .ok (.return_, 1) := by decide +kernel
theorem q120 : (Jvm.Cond.initialized "java/util/AbstractSet") ∈ lw_all := lw_g (lw_at lw_m1 47 rfl) rfl
theorem q1443 : (Jvm.Cond.instanceMethod ({ cls := "java/util/AbstractSet", name := "<init>", desc := "()V" } : Jvm.MethodName)) ∈ lw_all := lw_g (lw_at lw_m6 170 rfl) rfl
theorem q1444 : (Jvm.Cond.code ({ cls := "java/util/AbstractSet", name := "<init>", desc := "()V" } : Jvm.MethodName) prog_53_method_1_code (1 : Nat) (Option.none : Option Jvm.ClassFile.FieldType)) ∈ lw_all := lw_g (lw_at lw_m6 171 rfl) rfl
theorem q1445 : (Jvm.Cond.methodLink "java/util/AbstractSet" (1 : Nat) ({ cls := "java/util/AbstractCollection", name := "<init>", desc := "()V" } : Jvm.MethodName)) ∈ lw_all := lw_g (lw_at lw_m6 172 rfl) rfl
/-! java/util/HashMap$EntrySet -/
def RJ35 : String := "java/util/HashMap$EntrySet"
abbrev cJ35_iterator : ByteArray := prog_60_method_4_code
def yJ35_iterator : MethodName := ⟨RJ35, "iterator", "()Ljava/util/Iterator;"⟩
def dkwJ35_iterator_0 : List UInt8 := [187, 0, 22, 89, 42, 180, 0, 1, 183, 0, 24, 176]
abbrev dktJ35_iterator_0 : List UInt8 := dkwJ35_iterator_0 ++ []
theorem dksJ35_iterator_0 : cJ35_iterator.data.toList.drop 0 = dktJ35_iterator_0 := by decide +kernel
theorem dJ35_iterator_0 : decode cJ35_iterator 0 = .ok (.new 22, 3) := dk_187 0 22 (dk_at dksJ35_iterator_0 0 rfl rfl)
theorem dJ35_iterator_3 : decode cJ35_iterator 3 = .ok (.dup, 1) := dk_89 (dk_at dksJ35_iterator_0 3 rfl rfl)
theorem dJ35_iterator_4 : decode cJ35_iterator 4 = .ok (.aload_n 0, 1) := dk_42 (dk_at dksJ35_iterator_0 4 rfl rfl)
theorem dJ35_iterator_5 : decode cJ35_iterator 5 = .ok (.getfield 1, 3) := dk_180 0 1 (dk_at dksJ35_iterator_0 5 rfl rfl)
theorem dJ35_iterator_8 : decode cJ35_iterator 8 = .ok (.invokespecial 24, 3) := dk_183 0 24 (dk_at dksJ35_iterator_0 8 rfl rfl)
theorem dJ35_iterator_11 : decode cJ35_iterator 11 = .ok (.areturn, 1) := dk_176 (dk_at dksJ35_iterator_0 11 rfl rfl)
abbrev cJ35_init : ByteArray := prog_60_method_1_code
def yJ35_init : MethodName := ⟨RJ35, "<init>", "(Ljava/util/HashMap;)V"⟩
def dkwJ35_init_0 : List UInt8 := [42, 43, 181, 0, 1, 42, 183, 0, 7, 177]
abbrev dktJ35_init_0 : List UInt8 := dkwJ35_init_0 ++ []
theorem dksJ35_init_0 : cJ35_init.data.toList.drop 0 = dktJ35_init_0 := by decide +kernel
theorem dJ35_init_0 : decode cJ35_init 0 = .ok (.aload_n 0, 1) := dk_42 (dk_at dksJ35_init_0 0 rfl rfl)
theorem dJ35_init_1 : decode cJ35_init 1 = .ok (.aload_n 1, 1) := dk_43 (dk_at dksJ35_init_0 1 rfl rfl)
theorem dJ35_init_2 : decode cJ35_init 2 = .ok (.putfield 1, 3) := dk_181 0 1 (dk_at dksJ35_init_0 2 rfl rfl)
theorem dJ35_init_5 : decode cJ35_init 5 = .ok (.aload_n 0, 1) := dk_42 (dk_at dksJ35_init_0 5 rfl rfl)
theorem dJ35_init_6 : decode cJ35_init 6 = .ok (.invokespecial 7, 3) := dk_183 0 7 (dk_at dksJ35_init_0 6 rfl rfl)
theorem dJ35_init_9 : decode cJ35_init 9 = .ok (.return_, 1) := dk_177 (dk_at dksJ35_init_0 9 rfl rfl)
theorem q121 : (Jvm.Cond.initialized "java/util/HashMap$EntrySet") ∈ lw_all := lw_g (lw_at lw_m1 48 rfl) rfl
theorem q1021 : (Jvm.Cond.instanceMethod ({ cls := "java/util/HashMap$EntrySet", name := "iterator", desc := "()Ljava/util/Iterator;" } : Jvm.MethodName)) ∈ lw_all := lw_g (lw_at lw_m4 228 rfl) rfl
theorem q1022 : (Jvm.Cond.code ({ cls := "java/util/HashMap$EntrySet", name := "iterator", desc := "()Ljava/util/Iterator;" } : Jvm.MethodName) prog_60_method_4_code (1 : Nat) (Option.some (Jvm.ClassFile.FieldType.object "java/util/Iterator"))) ∈ lw_all := lw_g (lw_at lw_m4 229 rfl) rfl
theorem q1023 : (Jvm.Cond.classLink "java/util/HashMap$EntrySet" (22 : Nat) "java/util/HashMap$EntryIterator") ∈ lw_all := lw_g (lw_at lw_m4 230 rfl) rfl
theorem q1025 : (Jvm.Cond.methodLink "java/util/HashMap$EntrySet" (24 : Nat) ({ cls := "java/util/HashMap$EntryIterator", name := "<init>", desc := "(Ljava/util/HashMap;)V" } : Jvm.MethodName)) ∈ lw_all := lw_g (lw_at lw_m4 232 rfl) rfl
theorem q1438 : (Jvm.Cond.instantiable "java/util/HashMap$EntrySet" (1 : Nat)) ∈ lw_all := lw_g (lw_at lw_m6 165 rfl) rfl
theorem q1440 : (Jvm.Cond.instanceMethod ({ cls := "java/util/HashMap$EntrySet", name := "<init>", desc := "(Ljava/util/HashMap;)V" } : Jvm.MethodName)) ∈ lw_all := lw_g (lw_at lw_m6 167 rfl) rfl
theorem q1441 : (Jvm.Cond.code ({ cls := "java/util/HashMap$EntrySet", name := "<init>", desc := "(Ljava/util/HashMap;)V" } : Jvm.MethodName) prog_60_method_1_code (2 : Nat) (Option.none : Option Jvm.ClassFile.FieldType)) ∈ lw_all := lw_g (lw_at lw_m6 168 rfl) rfl
theorem q1442 : (Jvm.Cond.methodLink "java/util/HashMap$EntrySet" (7 : Nat) ({ cls := "java/util/AbstractSet", name := "<init>", desc := "()V" } : Jvm.MethodName)) ∈ lw_all := lw_g (lw_at lw_m6 169 rfl) rfl
theorem q1446 : (Jvm.Cond.fieldLink "java/util/HashMap$EntrySet" (1 : Nat) "java/util/HashMap$EntrySet" "this$0" "Ljava/util/HashMap;") ∈ lw_all := lw_g (lw_at lw_m6 173 rfl) rfl
theorem q1454 : (Jvm.Cond.castable "java/util/HashMap$EntrySet" "java/util/Set") ∈ lw_tbl := lw_at lw_m6 181 rfl
theorem q1455 : (Jvm.Cond.selects "java/util/HashMap$EntrySet" ({ cls := "java/util/Set", name := "iterator", desc := "()Ljava/util/Iterator;" } : Jvm.MethodName) ({ cls := "java/util/HashMap$EntrySet", name := "iterator", desc := "()Ljava/util/Iterator;" } : Jvm.MethodName)) ∈ lw_all := lw_g (lw_at lw_m6 182 rfl) rfl
theorem q1456 : (Jvm.Cond.unhidden "java/util/HashMap$EntrySet" "iterator" "()Ljava/util/Iterator;") ∈ lw_tbl := lw_at lw_m6 183 rfl
theorem q1457 : (Jvm.Cond.publicMethod ({ cls := "java/util/HashMap$EntrySet", name := "iterator", desc := "()Ljava/util/Iterator;" } : Jvm.MethodName)) ∈ lw_tbl := lw_at lw_m6 184 rfl
theorem q3516 : (Jvm.Cond.castable "java/util/HashMap$EntrySet" "java/lang/Object") ∈ lw_tbl := lw_at lw_m15 83 rfl
/-! java/lang/UnsupportedOperationException -/
def RJ36 : String := "java/lang/UnsupportedOperationException"
abbrev cJ36_init : ByteArray := prog_47_method_1_code
def yJ36_init : MethodName := ⟨RJ36, "<init>", "()V"⟩
theorem dJ36_init_0 : decode cJ36_init 0 = .ok (.aload_n 0, 1) := by decide +kernel
theorem dJ36_init_1 : decode cJ36_init 1 = .ok (.invokespecial 1, 3) := by decide +kernel
theorem dJ36_init_4 : decode cJ36_init 4 = .ok (.return_, 1) := by decide +kernel
theorem q122 : (Jvm.Cond.initialized "java/lang/UnsupportedOperationException") ∈ lw_all := lw_g (lw_at lw_m1 49 rfl) rfl
theorem q1769 : (Jvm.Cond.instantiable "java/lang/UnsupportedOperationException" (6 : Nat)) ∈ lw_all := lw_g (lw_at lw_m8 16 rfl) rfl
theorem q1778 : (Jvm.Cond.instanceMethod ({ cls := "java/lang/UnsupportedOperationException", name := "<init>", desc := "()V" } : Jvm.MethodName)) ∈ lw_all := lw_g (lw_at lw_m8 25 rfl) rfl
theorem q1779 : (Jvm.Cond.code ({ cls := "java/lang/UnsupportedOperationException", name := "<init>", desc := "()V" } : Jvm.MethodName) prog_47_method_1_code (1 : Nat) (Option.none : Option Jvm.ClassFile.FieldType)) ∈ lw_all := lw_g (lw_at lw_m8 26 rfl) rfl
theorem q1780 : (Jvm.Cond.methodLink "java/lang/UnsupportedOperationException" (1 : Nat) ({ cls := "java/lang/RuntimeException", name := "<init>", desc := "()V" } : Jvm.MethodName)) ∈ lw_all := lw_g (lw_at lw_m8 27 rfl) rfl
theorem q3519 : (Jvm.Cond.castable "java/lang/UnsupportedOperationException" "java/lang/Object") ∈ lw_tbl := lw_at lw_m15 86 rfl
/-! java/lang/ArrayIndexOutOfBoundsException -/
def RJ37 : String := "java/lang/ArrayIndexOutOfBoundsException"
theorem q123 : (Jvm.Cond.initialized "java/lang/ArrayIndexOutOfBoundsException") ∈ lw_all := lw_g (lw_at lw_m1 50 rfl) rfl
theorem q1787 : (Jvm.Cond.instantiable "java/lang/ArrayIndexOutOfBoundsException" (6 : Nat)) ∈ lw_all := lw_g (lw_at lw_m8 34 rfl) rfl
theorem q3520 : (Jvm.Cond.castable "java/lang/ArrayIndexOutOfBoundsException" "java/lang/Object") ∈ lw_tbl := lw_at lw_m15 87 rfl
/-! java/lang/IllegalStateException -/
def RJ38 : String := "java/lang/IllegalStateException"
abbrev cJ38_init_2 : ByteArray := prog_29_method_1_code
def yJ38_init_2 : MethodName := ⟨RJ38, "<init>", "()V"⟩
theorem dJ38_init_2_0 : decode cJ38_init_2 0 = .ok (.aload_n 0, 1) := by decide +kernel
theorem dJ38_init_2_1 : decode cJ38_init_2 1 = .ok (.invokespecial 1, 3) := by decide +kernel
theorem dJ38_init_2_4 : decode cJ38_init_2 4 = .ok (.return_, 1) := by decide +kernel
theorem q125 : (Jvm.Cond.initialized "java/lang/IllegalStateException") ∈ lw_all := lw_g (lw_at lw_m1 52 rfl) rfl
theorem q2055 : (Jvm.Cond.instantiable "java/lang/IllegalStateException" (6 : Nat)) ∈ lw_all := lw_g (lw_at lw_m9 62 rfl) rfl
theorem q2662 : (Jvm.Cond.instanceMethod ({ cls := "java/lang/IllegalStateException", name := "<init>", desc := "()V" } : Jvm.MethodName)) ∈ lw_all := lw_g (lw_at lw_m11 189 rfl) rfl
theorem q2663 : (Jvm.Cond.code ({ cls := "java/lang/IllegalStateException", name := "<init>", desc := "()V" } : Jvm.MethodName) prog_29_method_1_code (1 : Nat) (Option.none : Option Jvm.ClassFile.FieldType)) ∈ lw_all := lw_g (lw_at lw_m11 190 rfl) rfl
theorem q2664 : (Jvm.Cond.methodLink "java/lang/IllegalStateException" (1 : Nat) ({ cls := "java/lang/RuntimeException", name := "<init>", desc := "()V" } : Jvm.MethodName)) ∈ lw_all := lw_g (lw_at lw_m11 191 rfl) rfl
theorem q3524 : (Jvm.Cond.castable "java/lang/IllegalStateException" "java/lang/Object") ∈ lw_tbl := lw_at lw_m15 91 rfl
/-! JumpHall$Socks -/
def RX10 : String := "JumpHall$Socks"
abbrev cX10_hashCode : ByteArray := prog_14_method_3_code
def yX10_hashCode : MethodName := ⟨RX10, "hashCode", "()I"⟩
def dkwX10_hashCode_0 : List UInt8 := [16, 7, 42, 180, 0, 7, 104, 42, 180, 0, 13, 96, 172]
abbrev dktX10_hashCode_0 : List UInt8 := dkwX10_hashCode_0 ++ []
theorem dksX10_hashCode_0 : cX10_hashCode.data.toList.drop 0 = dktX10_hashCode_0 := by decide +kernel
theorem dX10_hashCode_0 : decode cX10_hashCode 0 = .ok (.bipush 7, 2) := dk_16 7 (dk_at dksX10_hashCode_0 0 rfl rfl)
theorem dX10_hashCode_2 : decode cX10_hashCode 2 = .ok (.aload_n 0, 1) := dk_42 (dk_at dksX10_hashCode_0 2 rfl rfl)
theorem dX10_hashCode_3 : decode cX10_hashCode 3 = .ok (.getfield 7, 3) := dk_180 0 7 (dk_at dksX10_hashCode_0 3 rfl rfl)
theorem dX10_hashCode_6 : decode cX10_hashCode 6 = .ok (.imul, 1) := dk_104 (dk_at dksX10_hashCode_0 6 rfl rfl)
theorem dX10_hashCode_7 : decode cX10_hashCode 7 = .ok (.aload_n 0, 1) := dk_42 (dk_at dksX10_hashCode_0 7 rfl rfl)
theorem dX10_hashCode_8 : decode cX10_hashCode 8 = .ok (.getfield 13, 3) := dk_180 0 13 (dk_at dksX10_hashCode_0 8 rfl rfl)
theorem dX10_hashCode_11 : decode cX10_hashCode 11 = .ok (.iadd, 1) := dk_96 (dk_at dksX10_hashCode_0 11 rfl rfl)
theorem dX10_hashCode_12 : decode cX10_hashCode 12 = .ok (.ireturn, 1) := dk_172 (dk_at dksX10_hashCode_0 12 rfl rfl)
abbrev cX10_equals : ByteArray := prog_14_method_2_code
def yX10_equals : MethodName := ⟨RX10, "equals", "(Ljava/lang/Object;)Z"⟩
def dkwX10_equals_1 : List UInt8 := [180, 0, 13, 42, 180, 0, 13, 160, 0, 7, 4, 167, 0, 4, 3, 172]
abbrev dktX10_equals_1 : List UInt8 := dkwX10_equals_1 ++ []
def dkwX10_equals_0 : List UInt8 := [43, 193, 0, 8, 153, 0, 34, 43, 192, 0, 8, 77, 44, 180, 0, 7, 42, 180, 0, 7, 160, 0, 18, 44]
abbrev dktX10_equals_0 : List UInt8 := dkwX10_equals_0 ++ dktX10_equals_1
theorem dksX10_equals_0 : cX10_equals.data.toList.drop 0 = dktX10_equals_0 := by decide +kernel
theorem dksX10_equals_1 : cX10_equals.data.toList.drop 24 = dktX10_equals_1 := dk_seg dksX10_equals_0 24 rfl rfl
theorem dX10_equals_0 : decode cX10_equals 0 = .ok (.aload_n 1, 1) := dk_43 (dk_at dksX10_equals_0 0 rfl rfl)
theorem dX10_equals_1 : decode cX10_equals 1 = .ok (.instanceof 8, 3) := dk_193 0 8 (dk_at dksX10_equals_0 1 rfl rfl)
theorem dX10_equals_4 : decode cX10_equals 4 = .ok (.ifCond .eq 34, 3) := dk_153 0 34 (dk_at dksX10_equals_0 4 rfl rfl)
theorem dX10_equals_7 : decode cX10_equals 7 = .ok (.aload_n 1, 1) := dk_43 (dk_at dksX10_equals_0 7 rfl rfl)
theorem dX10_equals_8 : decode cX10_equals 8 = .ok (.checkcast 8, 3) := dk_192 0 8 (dk_at dksX10_equals_0 8 rfl rfl)
theorem dX10_equals_11 : decode cX10_equals 11 = .ok (.astore_n 2, 1) := dk_77 (dk_at dksX10_equals_0 11 rfl rfl)
theorem dX10_equals_12 : decode cX10_equals 12 = .ok (.aload_n 2, 1) := dk_44 (dk_at dksX10_equals_0 12 rfl rfl)
theorem dX10_equals_13 : decode cX10_equals 13 = .ok (.getfield 7, 3) := dk_180 0 7 (dk_at dksX10_equals_0 13 rfl rfl)
theorem dX10_equals_16 : decode cX10_equals 16 = .ok (.aload_n 0, 1) := dk_42 (dk_at dksX10_equals_0 16 rfl rfl)
theorem dX10_equals_17 : decode cX10_equals 17 = .ok (.getfield 7, 3) := dk_180 0 7 (dk_at dksX10_equals_0 17 rfl rfl)
theorem dX10_equals_20 : decode cX10_equals 20 = .ok (.if_icmp .ne 18, 3) := dk_160 0 18 (dk_at dksX10_equals_0 20 rfl rfl)
theorem dX10_equals_23 : decode cX10_equals 23 = .ok (.aload_n 2, 1) := dk_44 (dk_at dksX10_equals_0 23 rfl rfl)
theorem dX10_equals_24 : decode cX10_equals 24 = .ok (.getfield 13, 3) := dk_180 0 13 (dk_at dksX10_equals_1 0 rfl rfl)
theorem dX10_equals_27 : decode cX10_equals 27 = .ok (.aload_n 0, 1) := dk_42 (dk_at dksX10_equals_1 3 rfl rfl)
theorem dX10_equals_28 : decode cX10_equals 28 = .ok (.getfield 13, 3) := dk_180 0 13 (dk_at dksX10_equals_1 4 rfl rfl)
theorem dX10_equals_31 : decode cX10_equals 31 = .ok (.if_icmp .ne 7, 3) := dk_160 0 7 (dk_at dksX10_equals_1 7 rfl rfl)
theorem dX10_equals_34 : decode cX10_equals 34 = .ok (.iconst 1, 1) := dk_4 (dk_at dksX10_equals_1 10 rfl rfl)
theorem dX10_equals_35 : decode cX10_equals 35 = .ok (.goto 4, 3) := dk_167 0 4 (dk_at dksX10_equals_1 11 rfl rfl)
theorem dX10_equals_38 : decode cX10_equals 38 = .ok (.iconst 0, 1) := dk_3 (dk_at dksX10_equals_1 14 rfl rfl)
theorem dX10_equals_39 : decode cX10_equals 39 = .ok (.ireturn, 1) := dk_172 (dk_at dksX10_equals_1 15 rfl rfl)
abbrev cX10_init : ByteArray := prog_14_method_1_code
def yX10_init : MethodName := ⟨RX10, "<init>", "(II)V"⟩
def dkwX10_init_0 : List UInt8 := [42, 183, 0, 1, 42, 27, 181, 0, 7, 42, 28, 181, 0, 13, 177]
abbrev dktX10_init_0 : List UInt8 := dkwX10_init_0 ++ []
theorem dksX10_init_0 : cX10_init.data.toList.drop 0 = dktX10_init_0 := by decide +kernel
theorem dX10_init_0 : decode cX10_init 0 = .ok (.aload_n 0, 1) := dk_42 (dk_at dksX10_init_0 0 rfl rfl)
theorem dX10_init_1 : decode cX10_init 1 = .ok (.invokespecial 1, 3) := dk_183 0 1 (dk_at dksX10_init_0 1 rfl rfl)
theorem dX10_init_4 : decode cX10_init 4 = .ok (.aload_n 0, 1) := dk_42 (dk_at dksX10_init_0 4 rfl rfl)
theorem dX10_init_5 : decode cX10_init 5 = .ok (.iload_n 1, 1) := dk_27 (dk_at dksX10_init_0 5 rfl rfl)
theorem dX10_init_6 : decode cX10_init 6 = .ok (.putfield 7, 3) := dk_181 0 7 (dk_at dksX10_init_0 6 rfl rfl)
theorem dX10_init_9 : decode cX10_init 9 = .ok (.aload_n 0, 1) := dk_42 (dk_at dksX10_init_0 9 rfl rfl)
theorem dX10_init_10 : decode cX10_init 10 = .ok (.iload_n 2, 1) := dk_28 (dk_at dksX10_init_0 10 rfl rfl)
theorem dX10_init_11 : decode cX10_init 11 = .ok (.putfield 13, 3) := dk_181 0 13 (dk_at dksX10_init_0 11 rfl rfl)
theorem dX10_init_14 : decode cX10_init 14 = .ok (.return_, 1) := dk_177 (dk_at dksX10_init_0 14 rfl rfl)
theorem q126 : (Jvm.Cond.initialized "JumpHall$Socks") ∈ lw_all := lw_g (lw_at lw_m1 53 rfl) rfl
theorem q1505 : (Jvm.Cond.selects "JumpHall$Socks" ({ cls := "java/lang/Object", name := "hashCode", desc := "()I" } : Jvm.MethodName) ({ cls := "JumpHall$Socks", name := "hashCode", desc := "()I" } : Jvm.MethodName)) ∈ lw_all := lw_g (lw_at lw_m6 232 rfl) rfl
theorem q1506 : (Jvm.Cond.instanceMethod ({ cls := "JumpHall$Socks", name := "hashCode", desc := "()I" } : Jvm.MethodName)) ∈ lw_all := lw_g (lw_at lw_m6 233 rfl) rfl
theorem q1507 : (Jvm.Cond.code ({ cls := "JumpHall$Socks", name := "hashCode", desc := "()I" } : Jvm.MethodName) prog_14_method_3_code (1 : Nat) (Option.some Jvm.ClassFile.FieldType.int)) ∈ lw_all := lw_g (lw_at lw_m6 234 rfl) rfl
theorem q1609 : (Jvm.Cond.selects "JumpHall$Socks" ({ cls := "java/lang/Object", name := "equals", desc := "(Ljava/lang/Object;)Z" } : Jvm.MethodName) ({ cls := "JumpHall$Socks", name := "equals", desc := "(Ljava/lang/Object;)Z" } : Jvm.MethodName)) ∈ lw_all := lw_g (lw_at lw_m7 96 rfl) rfl
theorem q1610 : (Jvm.Cond.instanceMethod ({ cls := "JumpHall$Socks", name := "equals", desc := "(Ljava/lang/Object;)Z" } : Jvm.MethodName)) ∈ lw_all := lw_g (lw_at lw_m7 97 rfl) rfl
theorem q1611 : (Jvm.Cond.code ({ cls := "JumpHall$Socks", name := "equals", desc := "(Ljava/lang/Object;)Z" } : Jvm.MethodName) prog_14_method_2_code (3 : Nat) (Option.some Jvm.ClassFile.FieldType.boolean)) ∈ lw_all := lw_g (lw_at lw_m7 98 rfl) rfl
theorem q1612 : (Jvm.Cond.classLink "JumpHall$Socks" (8 : Nat) "JumpHall$Socks") ∈ lw_all := lw_g (lw_at lw_m7 99 rfl) rfl
theorem q2229 : (Jvm.Cond.instantiable "JumpHall$Socks" (2 : Nat)) ∈ lw_all := lw_g (lw_at lw_m9 236 rfl) rfl
theorem q2231 : (Jvm.Cond.instanceMethod ({ cls := "JumpHall$Socks", name := "<init>", desc := "(II)V" } : Jvm.MethodName)) ∈ lw_all := lw_g (lw_at lw_m9 238 rfl) rfl
theorem q2232 : (Jvm.Cond.code ({ cls := "JumpHall$Socks", name := "<init>", desc := "(II)V" } : Jvm.MethodName) prog_14_method_1_code (3 : Nat) (Option.none : Option Jvm.ClassFile.FieldType)) ∈ lw_all := lw_g (lw_at lw_m9 239 rfl) rfl
theorem q2233 : (Jvm.Cond.methodLink "JumpHall$Socks" (1 : Nat) ({ cls := "java/lang/Object", name := "<init>", desc := "()V" } : Jvm.MethodName)) ∈ lw_all := lw_g (lw_at lw_m10 0 rfl) rfl
theorem q2234 : (Jvm.Cond.fieldLink "JumpHall$Socks" (7 : Nat) "JumpHall$Socks" "size" "I") ∈ lw_all := lw_g (lw_at lw_m10 1 rfl) rfl
theorem q2236 : (Jvm.Cond.fieldLink "JumpHall$Socks" (13 : Nat) "JumpHall$Socks" "colour" "I") ∈ lw_all := lw_g (lw_at lw_m10 3 rfl) rfl
theorem q3527 : (Jvm.Cond.castable "JumpHall$Socks" "java/lang/Object") ∈ lw_tbl := lw_at lw_m15 94 rfl
/-! java/lang/StringIndexOutOfBoundsException -/
def RJ39 : String := "java/lang/StringIndexOutOfBoundsException"
theorem q127 : (Jvm.Cond.initialized "java/lang/StringIndexOutOfBoundsException") ∈ lw_all := lw_g (lw_at lw_m1 54 rfl) rfl
theorem q2493 : (Jvm.Cond.instantiable "java/lang/StringIndexOutOfBoundsException" (6 : Nat)) ∈ lw_all := lw_g (lw_at lw_m11 20 rfl) rfl
theorem q3528 : (Jvm.Cond.castable "java/lang/StringIndexOutOfBoundsException" "java/lang/Object") ∈ lw_tbl := lw_at lw_m15 95 rfl
/-! java/lang/ArithmeticException -/
def RJ40 : String := "java/lang/ArithmeticException"
abbrev cJ40_init_2 : ByteArray := prog_21_method_1_code
def yJ40_init_2 : MethodName := ⟨RJ40, "<init>", "()V"⟩
theorem dJ40_init_2_0 : decode cJ40_init_2 0 = .ok (.aload_n 0, 1) := by decide +kernel
theorem dJ40_init_2_1 : decode cJ40_init_2 1 = .ok (.invokespecial 1, 3) := by decide +kernel
theorem dJ40_init_2_4 : decode cJ40_init_2 4 = .ok (.return_, 1) := by decide +kernel
theorem q128 : (Jvm.Cond.initialized "java/lang/ArithmeticException") ∈ lw_all := lw_g (lw_at lw_m1 55 rfl) rfl
theorem q2589 : (Jvm.Cond.instantiable "java/lang/ArithmeticException" (6 : Nat)) ∈ lw_all := lw_g (lw_at lw_m11 116 rfl) rfl
theorem q2614 : (Jvm.Cond.instanceMethod ({ cls := "java/lang/ArithmeticException", name := "<init>", desc := "()V" } : Jvm.MethodName)) ∈ lw_all := lw_g (lw_at lw_m11 141 rfl) rfl
theorem q2615 : (Jvm.Cond.code ({ cls := "java/lang/ArithmeticException", name := "<init>", desc := "()V" } : Jvm.MethodName) prog_21_method_1_code (1 : Nat) (Option.none : Option Jvm.ClassFile.FieldType)) ∈ lw_all := lw_g (lw_at lw_m11 142 rfl) rfl
theorem q2616 : (Jvm.Cond.methodLink "java/lang/ArithmeticException" (1 : Nat) ({ cls := "java/lang/RuntimeException", name := "<init>", desc := "()V" } : Jvm.MethodName)) ∈ lw_all := lw_g (lw_at lw_m11 143 rfl) rfl
theorem q3529 : (Jvm.Cond.castable "java/lang/ArithmeticException" "java/lang/Object") ∈ lw_tbl := lw_at lw_m15 96 rfl
