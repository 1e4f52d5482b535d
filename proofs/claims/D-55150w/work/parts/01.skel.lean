-- ===== PART A: goes FIRST, ahead of the names: the tables' words, and 'selects' of the private methods out of them =====
/-- a private method of a class that the tables say can be made, by its rows of tables_1 -/
def lw_okq (q : MethodName × Nat) : Prop := (q.1.cls ≠ "java/lang/invoke/MethodHandle" ∧ q.1.cls ≠ "java/lang/invoke/VarHandle") ∧ Cond.instantiable q.1.cls q.2 ∈ tables_1 ∧ Cond.privateMethod q.1 ∈ tables_1 ∧ Cond.instanceMethod q.1 ∈ tables_1
set_option maxRecDepth 100000
theorem lw_t1 {w : Cond} (h : w ∈ tables_1_1) : w ∈ tables_1 := List.mem_append_left _ h
theorem lw_t2 {w : Cond} (h : w ∈ tables_1_2) : w ∈ tables_1 := List.mem_append_right _ (List.mem_append_left _ h)
theorem lw_t3 {w : Cond} (h : w ∈ tables_1_3) : w ∈ tables_1 := List.mem_append_right _ (List.mem_append_right _ (List.mem_append_left _ h))
theorem lw_t4 {w : Cond} (h : w ∈ tables_1_4) : w ∈ tables_1 := List.mem_append_right _ (List.mem_append_right _ (List.mem_append_right _ (List.mem_append_left _ h)))
theorem lw_t5 {w : Cond} (h : w ∈ tables_1_5) : w ∈ tables_1 := List.mem_append_right _ (List.mem_append_right _ (List.mem_append_right _ (List.mem_append_right _ (List.mem_append_left _ h))))
theorem lw_t6 {w : Cond} (h : w ∈ tables_1_6) : w ∈ tables_1 := List.mem_append_right _ (List.mem_append_right _ (List.mem_append_right _ (List.mem_append_right _ (List.mem_append_right _ (List.mem_append_left _ h)))))
theorem lw_t7 {w : Cond} (h : w ∈ tables_1_7) : w ∈ tables_1 := List.mem_append_right _ (List.mem_append_right _ (List.mem_append_right _ (List.mem_append_right _ (List.mem_append_right _ (List.mem_append_right _ (List.mem_append_left _ h))))))
theorem lw_t8 {w : Cond} (h : w ∈ tables_1_8) : w ∈ tables_1 := List.mem_append_right _ (List.mem_append_right _ (List.mem_append_right _ (List.mem_append_right _ (List.mem_append_right _ (List.mem_append_right _ (List.mem_append_right _ (List.mem_append_left _ h)))))))
theorem lw_t9 {w : Cond} (h : w ∈ tables_1_9) : w ∈ tables_1 := List.mem_append_right _ (List.mem_append_right _ (List.mem_append_right _ (List.mem_append_right _ (List.mem_append_right _ (List.mem_append_right _ (List.mem_append_right _ (List.mem_append_right _ (List.mem_append_left _ h))))))))
theorem lw_t10 {w : Cond} (h : w ∈ tables_1_10) : w ∈ tables_1 := List.mem_append_right _ (List.mem_append_right _ (List.mem_append_right _ (List.mem_append_right _ (List.mem_append_right _ (List.mem_append_right _ (List.mem_append_right _ (List.mem_append_right _ (List.mem_append_right _ (List.mem_append_left _ h)))))))))
theorem lw_t11 {w : Cond} (h : w ∈ tables_1_11) : w ∈ tables_1 := List.mem_append_right _ (List.mem_append_right _ (List.mem_append_right _ (List.mem_append_right _ (List.mem_append_right _ (List.mem_append_right _ (List.mem_append_right _ (List.mem_append_right _ (List.mem_append_right _ (List.mem_append_right _ (List.mem_append_left _ h))))))))))
theorem lw_t12 {w : Cond} (h : w ∈ tables_1_12) : w ∈ tables_1 := List.mem_append_right _ (List.mem_append_right _ (List.mem_append_right _ (List.mem_append_right _ (List.mem_append_right _ (List.mem_append_right _ (List.mem_append_right _ (List.mem_append_right _ (List.mem_append_right _ (List.mem_append_right _ (List.mem_append_right _ (List.mem_append_left _ h)))))))))))
theorem lw_t13 {w : Cond} (h : w ∈ tables_1_13) : w ∈ tables_1 := List.mem_append_right _ (List.mem_append_right _ (List.mem_append_right _ (List.mem_append_right _ (List.mem_append_right _ (List.mem_append_right _ (List.mem_append_right _ (List.mem_append_right _ (List.mem_append_right _ (List.mem_append_right _ (List.mem_append_right _ (List.mem_append_right _ (List.mem_append_left _ h))))))))))))
theorem lw_t14 {w : Cond} (h : w ∈ tables_1_14) : w ∈ tables_1 := List.mem_append_right _ (List.mem_append_right _ (List.mem_append_right _ (List.mem_append_right _ (List.mem_append_right _ (List.mem_append_right _ (List.mem_append_right _ (List.mem_append_right _ (List.mem_append_right _ (List.mem_append_right _ (List.mem_append_right _ (List.mem_append_right _ (List.mem_append_right _ (List.mem_append_left _ h)))))))))))))
theorem lw_t15 {w : Cond} (h : w ∈ tables_1_15) : w ∈ tables_1 := List.mem_append_right _ (List.mem_append_right _ (List.mem_append_right _ (List.mem_append_right _ (List.mem_append_right _ (List.mem_append_right _ (List.mem_append_right _ (List.mem_append_right _ (List.mem_append_right _ (List.mem_append_right _ (List.mem_append_right _ (List.mem_append_right _ (List.mem_append_right _ (List.mem_append_right _ h)))))))))))))
theorem lw_p0 : lw_okq (⟨"java/lang/Throwable", "fillInStackTrace", "(I)Ljava/lang/Throwable;"⟩, 6) := ⟨⟨by decide +kernel, by decide +kernel⟩, lw_t2 (List.mem_of_getElem? (i := 136) rfl), lw_t2 (List.mem_of_getElem? (i := 134) rfl), lw_t2 (List.mem_of_getElem? (i := 135) rfl)⟩
theorem lw_p1 : lw_okq (⟨"java/util/ArrayList", "add", "(Ljava/lang/Object;[Ljava/lang/Object;I)V"⟩, 3) := ⟨⟨by decide +kernel, by decide +kernel⟩, lw_t1 (List.mem_of_getElem? (i := 80) rfl), lw_t4 (List.mem_of_getElem? (i := 43) rfl), lw_t4 (List.mem_of_getElem? (i := 44) rfl)⟩
theorem lw_p2 : lw_okq (⟨"java/util/ArrayList", "grow", "()[Ljava/lang/Object;"⟩, 3) := ⟨⟨by decide +kernel, by decide +kernel⟩, lw_t1 (List.mem_of_getElem? (i := 80) rfl), lw_t4 (List.mem_of_getElem? (i := 47) rfl), lw_t4 (List.mem_of_getElem? (i := 48) rfl)⟩
theorem lw_p3 : lw_okq (⟨"java/util/ArrayList", "grow", "(I)[Ljava/lang/Object;"⟩, 3) := ⟨⟨by decide +kernel, by decide +kernel⟩, lw_t1 (List.mem_of_getElem? (i := 80) rfl), lw_t4 (List.mem_of_getElem? (i := 51) rfl), lw_t4 (List.mem_of_getElem? (i := 52) rfl)⟩
theorem lw_p4 : lw_okq (⟨"JumpHall", "does", "(LJumpHall$Deed;)I"⟩, 8) := ⟨⟨by decide +kernel, by decide +kernel⟩, lw_t1 (List.mem_of_getElem? (i := 66) rfl), lw_t7 (List.mem_of_getElem? (i := 239) rfl), lw_t8 (List.mem_of_getElem? (i := 0) rfl)⟩
theorem lw_p5 : lw_okq (⟨"java/util/ArrayList", "fastRemove", "([Ljava/lang/Object;I)V"⟩, 3) := ⟨⟨by decide +kernel, by decide +kernel⟩, lw_t1 (List.mem_of_getElem? (i := 80) rfl), lw_t8 (List.mem_of_getElem? (i := 11) rfl), lw_t8 (List.mem_of_getElem? (i := 12) rfl)⟩
theorem lw_p6 : lw_okq (⟨"JumpHall", "matAt", "(I)LJumpHall$Mat;"⟩, 8) := ⟨⟨by decide +kernel, by decide +kernel⟩, lw_t1 (List.mem_of_getElem? (i := 66) rfl), lw_t8 (List.mem_of_getElem? (i := 106) rfl), lw_t8 (List.mem_of_getElem? (i := 107) rfl)⟩
theorem lw_p7 : lw_okq (⟨"JumpHall$Hall", "checkUp", "(LJumpHall$Jumper;I)V"⟩, 11) := ⟨⟨by decide +kernel, by decide +kernel⟩, lw_t1 (List.mem_of_getElem? (i := 74) rfl), lw_t9 (List.mem_of_getElem? (i := 32) rfl), lw_t9 (List.mem_of_getElem? (i := 33) rfl)⟩
theorem lw_p8 : lw_okq (⟨"JumpHall$Hall", "checkBearing", "(LJumpHall$Jumper;I)V"⟩, 11) := ⟨⟨by decide +kernel, by decide +kernel⟩, lw_t1 (List.mem_of_getElem? (i := 74) rfl), lw_t9 (List.mem_of_getElem? (i := 45) rfl), lw_t9 (List.mem_of_getElem? (i := 46) rfl)⟩
theorem lw_p9 : lw_okq (⟨"JumpHall", "jumperAt", "(I)LJumpHall$Jumper;"⟩, 8) := ⟨⟨by decide +kernel, by decide +kernel⟩, lw_t1 (List.mem_of_getElem? (i := 66) rfl), lw_t9 (List.mem_of_getElem? (i := 190) rfl), lw_t9 (List.mem_of_getElem? (i := 191) rfl)⟩
theorem lw_p10 : lw_okq (⟨"JumpHall", "partyAt", "(I)LJumpHall$Party;"⟩, 8) := ⟨⟨by decide +kernel, by decide +kernel⟩, lw_t1 (List.mem_of_getElem? (i := 66) rfl), lw_t10 (List.mem_of_getElem? (i := 183) rfl), lw_t10 (List.mem_of_getElem? (i := 184) rfl)⟩
theorem lw_p11 : lw_okq (⟨"JumpHall$Hall", "minuteGoesBy", "()I"⟩, 11) := ⟨⟨by decide +kernel, by decide +kernel⟩, lw_t1 (List.mem_of_getElem? (i := 74) rfl), lw_t10 (List.mem_of_getElem? (i := 229) rfl), lw_t10 (List.mem_of_getElem? (i := 230) rfl)⟩
theorem lw_p12 : lw_okq (⟨"JumpHall$Hall", "wearMats", "()V"⟩, 11) := ⟨⟨by decide +kernel, by decide +kernel⟩, lw_t1 (List.mem_of_getElem? (i := 74) rfl), lw_t10 (List.mem_of_getElem? (i := 233) rfl), lw_t10 (List.mem_of_getElem? (i := 234) rfl)⟩
theorem lw_p13 : lw_okq (⟨"JumpHall$Hall", "clears", "(I)I"⟩, 11) := ⟨⟨by decide +kernel, by decide +kernel⟩, lw_t1 (List.mem_of_getElem? (i := 74) rfl), lw_t10 (List.mem_of_getElem? (i := 237) rfl), lw_t10 (List.mem_of_getElem? (i := 238) rfl)⟩
theorem lw_p14 : lw_okq (⟨"JumpHall$Hall", "comes", "(I)V"⟩, 11) := ⟨⟨by decide +kernel, by decide +kernel⟩, lw_t1 (List.mem_of_getElem? (i := 74) rfl), lw_t11 (List.mem_of_getElem? (i := 1) rfl), lw_t11 (List.mem_of_getElem? (i := 2) rfl)⟩
theorem lw_p15 : lw_okq (⟨"JumpHall$Parser", "command", "()LJumpHall$Command;"⟩, 4) := ⟨⟨by decide +kernel, by decide +kernel⟩, lw_t11 (List.mem_of_getElem? (i := 201) rfl), lw_t11 (List.mem_of_getElem? (i := 226) rfl), lw_t11 (List.mem_of_getElem? (i := 227) rfl)⟩
def lw_privs_1 : List (MethodName × Nat) := [(⟨"java/lang/Throwable", "fillInStackTrace", "(I)Ljava/lang/Throwable;"⟩, 6), (⟨"java/util/ArrayList", "add", "(Ljava/lang/Object;[Ljava/lang/Object;I)V"⟩, 3), (⟨"java/util/ArrayList", "grow", "()[Ljava/lang/Object;"⟩, 3), (⟨"java/util/ArrayList", "grow", "(I)[Ljava/lang/Object;"⟩, 3), (⟨"JumpHall", "does", "(LJumpHall$Deed;)I"⟩, 8), (⟨"java/util/ArrayList", "fastRemove", "([Ljava/lang/Object;I)V"⟩, 3), (⟨"JumpHall", "matAt", "(I)LJumpHall$Mat;"⟩, 8), (⟨"JumpHall$Hall", "checkUp", "(LJumpHall$Jumper;I)V"⟩, 11), (⟨"JumpHall$Hall", "checkBearing", "(LJumpHall$Jumper;I)V"⟩, 11), (⟨"JumpHall", "jumperAt", "(I)LJumpHall$Jumper;"⟩, 8), (⟨"JumpHall", "partyAt", "(I)LJumpHall$Party;"⟩, 8), (⟨"JumpHall$Hall", "minuteGoesBy", "()I"⟩, 11), (⟨"JumpHall$Hall", "wearMats", "()V"⟩, 11), (⟨"JumpHall$Hall", "clears", "(I)I"⟩, 11), (⟨"JumpHall$Hall", "comes", "(I)V"⟩, 11), (⟨"JumpHall$Parser", "command", "()LJumpHall$Command;"⟩, 4)]
theorem lw_r1 : ∀ q ∈ lw_privs_1, lw_okq q := List.forall_mem_cons.mpr ⟨lw_p0, List.forall_mem_cons.mpr ⟨lw_p1, List.forall_mem_cons.mpr ⟨lw_p2, List.forall_mem_cons.mpr ⟨lw_p3, List.forall_mem_cons.mpr ⟨lw_p4, List.forall_mem_cons.mpr ⟨lw_p5, List.forall_mem_cons.mpr ⟨lw_p6, List.forall_mem_cons.mpr ⟨lw_p7, List.forall_mem_cons.mpr ⟨lw_p8, List.forall_mem_cons.mpr ⟨lw_p9, List.forall_mem_cons.mpr ⟨lw_p10, List.forall_mem_cons.mpr ⟨lw_p11, List.forall_mem_cons.mpr ⟨lw_p12, List.forall_mem_cons.mpr ⟨lw_p13, List.forall_mem_cons.mpr ⟨lw_p14, List.forall_mem_cons.mpr ⟨lw_p15, fun _ h => absurd h List.not_mem_nil⟩⟩⟩⟩⟩⟩⟩⟩⟩⟩⟩⟩⟩⟩⟩⟩
theorem lw_p16 : lw_okq (⟨"JumpHall$Parser", "word", "()Ljava/lang/String;"⟩, 4) := ⟨⟨by decide +kernel, by decide +kernel⟩, lw_t11 (List.mem_of_getElem? (i := 201) rfl), lw_t11 (List.mem_of_getElem? (i := 230) rfl), lw_t11 (List.mem_of_getElem? (i := 231) rfl)⟩
theorem lw_p17 : lw_okq (⟨"JumpHall$Parser", "peek", "()C"⟩, 4) := ⟨⟨by decide +kernel, by decide +kernel⟩, lw_t11 (List.mem_of_getElem? (i := 201) rfl), lw_t12 (List.mem_of_getElem? (i := 86) rfl), lw_t12 (List.mem_of_getElem? (i := 87) rfl)⟩
theorem lw_p18 : lw_okq (⟨"JumpHall$Parser", "number", "()I"⟩, 4) := ⟨⟨by decide +kernel, by decide +kernel⟩, lw_t11 (List.mem_of_getElem? (i := 201) rfl), lw_t12 (List.mem_of_getElem? (i := 143) rfl), lw_t12 (List.mem_of_getElem? (i := 144) rfl)⟩
theorem lw_p19 : lw_okq (⟨"JumpHall$Parser", "next", "(CC)I"⟩, 4) := ⟨⟨by decide +kernel, by decide +kernel⟩, lw_t11 (List.mem_of_getElem? (i := 201) rfl), lw_t12 (List.mem_of_getElem? (i := 147) rfl), lw_t12 (List.mem_of_getElem? (i := 148) rfl)⟩
theorem lw_p20 : lw_okq (⟨"JumpHall$Command", "deed", "(LJumpHall$Hall;)LJumpHall$Deed;"⟩, 3) := ⟨⟨by decide +kernel, by decide +kernel⟩, lw_t12 (List.mem_of_getElem? (i := 154) rfl), lw_t12 (List.mem_of_getElem? (i := 185) rfl), lw_t12 (List.mem_of_getElem? (i := 186) rfl)⟩
theorem lw_p21 : lw_okq (⟨"JumpHall$Command", "lambda$deed$0", "(LJumpHall$Hall;)I"⟩, 3) := ⟨⟨by decide +kernel, by decide +kernel⟩, lw_t12 (List.mem_of_getElem? (i := 154) rfl), lw_t12 (List.mem_of_getElem? (i := 218) rfl), lw_t12 (List.mem_of_getElem? (i := 219) rfl)⟩
theorem lw_p22 : lw_okq (⟨"JumpHall$Command", "lambda$deed$1", "(LJumpHall$Hall;)I"⟩, 3) := ⟨⟨by decide +kernel, by decide +kernel⟩, lw_t12 (List.mem_of_getElem? (i := 154) rfl), lw_t12 (List.mem_of_getElem? (i := 222) rfl), lw_t12 (List.mem_of_getElem? (i := 223) rfl)⟩
theorem lw_p23 : lw_okq (⟨"JumpHall$Command", "lambda$deed$2", "(LJumpHall$Hall;)I"⟩, 3) := ⟨⟨by decide +kernel, by decide +kernel⟩, lw_t12 (List.mem_of_getElem? (i := 154) rfl), lw_t12 (List.mem_of_getElem? (i := 226) rfl), lw_t12 (List.mem_of_getElem? (i := 227) rfl)⟩
theorem lw_p24 : lw_okq (⟨"JumpHall$Command", "lambda$deed$3", "(LJumpHall$Hall;)I"⟩, 3) := ⟨⟨by decide +kernel, by decide +kernel⟩, lw_t12 (List.mem_of_getElem? (i := 154) rfl), lw_t12 (List.mem_of_getElem? (i := 231) rfl), lw_t12 (List.mem_of_getElem? (i := 232) rfl)⟩
theorem lw_p25 : lw_okq (⟨"JumpHall$Command", "lambda$deed$4", "(LJumpHall$Hall;)I"⟩, 3) := ⟨⟨by decide +kernel, by decide +kernel⟩, lw_t12 (List.mem_of_getElem? (i := 154) rfl), lw_t12 (List.mem_of_getElem? (i := 235) rfl), lw_t12 (List.mem_of_getElem? (i := 236) rfl)⟩
theorem lw_p26 : lw_okq (⟨"JumpHall$Command", "lambda$deed$5", "(LJumpHall$Hall;)I"⟩, 3) := ⟨⟨by decide +kernel, by decide +kernel⟩, lw_t12 (List.mem_of_getElem? (i := 154) rfl), lw_t12 (List.mem_of_getElem? (i := 239) rfl), lw_t13 (List.mem_of_getElem? (i := 0) rfl)⟩
theorem lw_p27 : lw_okq (⟨"JumpHall$Command", "lambda$deed$6", "(LJumpHall$Hall;)I"⟩, 3) := ⟨⟨by decide +kernel, by decide +kernel⟩, lw_t12 (List.mem_of_getElem? (i := 154) rfl), lw_t13 (List.mem_of_getElem? (i := 4) rfl), lw_t13 (List.mem_of_getElem? (i := 5) rfl)⟩
theorem lw_p28 : lw_okq (⟨"JumpHallModel", "layAside", "()V"⟩, 25) := ⟨⟨by decide +kernel, by decide +kernel⟩, lw_t13 (List.mem_of_getElem? (i := 67) rfl), lw_t13 (List.mem_of_getElem? (i := 157) rfl), lw_t13 (List.mem_of_getElem? (i := 158) rfl)⟩
theorem lw_p29 : lw_okq (⟨"JumpHallModel", "refuse", "(III)I"⟩, 25) := ⟨⟨by decide +kernel, by decide +kernel⟩, lw_t13 (List.mem_of_getElem? (i := 67) rfl), lw_t13 (List.mem_of_getElem? (i := 161) rfl), lw_t13 (List.mem_of_getElem? (i := 162) rfl)⟩
theorem lw_p30 : lw_okq (⟨"JumpHallModel", "throwing", "(I)I"⟩, 25) := ⟨⟨by decide +kernel, by decide +kernel⟩, lw_t13 (List.mem_of_getElem? (i := 67) rfl), lw_t13 (List.mem_of_getElem? (i := 165) rfl), lw_t13 (List.mem_of_getElem? (i := 166) rfl)⟩
theorem lw_p31 : lw_okq (⟨"JumpHallModel", "changed", "(I)I"⟩, 25) := ⟨⟨by decide +kernel, by decide +kernel⟩, lw_t13 (List.mem_of_getElem? (i := 67) rfl), lw_t13 (List.mem_of_getElem? (i := 172) rfl), lw_t13 (List.mem_of_getElem? (i := 173) rfl)⟩
def lw_privs_2 : List (MethodName × Nat) := [(⟨"JumpHall$Parser", "word", "()Ljava/lang/String;"⟩, 4), (⟨"JumpHall$Parser", "peek", "()C"⟩, 4), (⟨"JumpHall$Parser", "number", "()I"⟩, 4), (⟨"JumpHall$Parser", "next", "(CC)I"⟩, 4), (⟨"JumpHall$Command", "deed", "(LJumpHall$Hall;)LJumpHall$Deed;"⟩, 3), (⟨"JumpHall$Command", "lambda$deed$0", "(LJumpHall$Hall;)I"⟩, 3), (⟨"JumpHall$Command", "lambda$deed$1", "(LJumpHall$Hall;)I"⟩, 3), (⟨"JumpHall$Command", "lambda$deed$2", "(LJumpHall$Hall;)I"⟩, 3), (⟨"JumpHall$Command", "lambda$deed$3", "(LJumpHall$Hall;)I"⟩, 3), (⟨"JumpHall$Command", "lambda$deed$4", "(LJumpHall$Hall;)I"⟩, 3), (⟨"JumpHall$Command", "lambda$deed$5", "(LJumpHall$Hall;)I"⟩, 3), (⟨"JumpHall$Command", "lambda$deed$6", "(LJumpHall$Hall;)I"⟩, 3), (⟨"JumpHallModel", "layAside", "()V"⟩, 25), (⟨"JumpHallModel", "refuse", "(III)I"⟩, 25), (⟨"JumpHallModel", "throwing", "(I)I"⟩, 25), (⟨"JumpHallModel", "changed", "(I)I"⟩, 25)]
theorem lw_r2 : ∀ q ∈ lw_privs_2, lw_okq q := List.forall_mem_cons.mpr ⟨lw_p16, List.forall_mem_cons.mpr ⟨lw_p17, List.forall_mem_cons.mpr ⟨lw_p18, List.forall_mem_cons.mpr ⟨lw_p19, List.forall_mem_cons.mpr ⟨lw_p20, List.forall_mem_cons.mpr ⟨lw_p21, List.forall_mem_cons.mpr ⟨lw_p22, List.forall_mem_cons.mpr ⟨lw_p23, List.forall_mem_cons.mpr ⟨lw_p24, List.forall_mem_cons.mpr ⟨lw_p25, List.forall_mem_cons.mpr ⟨lw_p26, List.forall_mem_cons.mpr ⟨lw_p27, List.forall_mem_cons.mpr ⟨lw_p28, List.forall_mem_cons.mpr ⟨lw_p29, List.forall_mem_cons.mpr ⟨lw_p30, List.forall_mem_cons.mpr ⟨lw_p31, fun _ h => absurd h List.not_mem_nil⟩⟩⟩⟩⟩⟩⟩⟩⟩⟩⟩⟩⟩⟩⟩⟩
theorem lw_p32 : lw_okq (⟨"JumpHallModel", "fixIt", "(II)I"⟩, 25) := ⟨⟨by decide +kernel, by decide +kernel⟩, lw_t13 (List.mem_of_getElem? (i := 67) rfl), lw_t13 (List.mem_of_getElem? (i := 180) rfl), lw_t13 (List.mem_of_getElem? (i := 181) rfl)⟩
theorem lw_p33 : lw_okq (⟨"JumpHallModel", "isMat", "(I)Z"⟩, 25) := ⟨⟨by decide +kernel, by decide +kernel⟩, lw_t13 (List.mem_of_getElem? (i := 67) rfl), lw_t13 (List.mem_of_getElem? (i := 184) rfl), lw_t13 (List.mem_of_getElem? (i := 185) rfl)⟩
theorem lw_p34 : lw_okq (⟨"JumpHallModel", "lowestOn", "(I)I"⟩, 25) := ⟨⟨by decide +kernel, by decide +kernel⟩, lw_t13 (List.mem_of_getElem? (i := 67) rfl), lw_t13 (List.mem_of_getElem? (i := 192) rfl), lw_t13 (List.mem_of_getElem? (i := 193) rfl)⟩
theorem lw_p35 : lw_okq (⟨"JumpHallModel", "isOn", "(II)Z"⟩, 25) := ⟨⟨by decide +kernel, by decide +kernel⟩, lw_t13 (List.mem_of_getElem? (i := 67) rfl), lw_t13 (List.mem_of_getElem? (i := 196) rfl), lw_t13 (List.mem_of_getElem? (i := 197) rfl)⟩
theorem lw_p36 : lw_okq (⟨"JumpHallModel", "bears", "(I)I"⟩, 25) := ⟨⟨by decide +kernel, by decide +kernel⟩, lw_t13 (List.mem_of_getElem? (i := 67) rfl), lw_t13 (List.mem_of_getElem? (i := 203) rfl), lw_t13 (List.mem_of_getElem? (i := 204) rfl)⟩
theorem lw_p37 : lw_okq (⟨"JumpHallModel", "broken", "(I)I"⟩, 25) := ⟨⟨by decide +kernel, by decide +kernel⟩, lw_t13 (List.mem_of_getElem? (i := 67) rfl), lw_t13 (List.mem_of_getElem? (i := 207) rfl), lw_t13 (List.mem_of_getElem? (i := 208) rfl)⟩
theorem lw_p38 : lw_okq (⟨"JumpHallModel", "openIt", "(I)I"⟩, 25) := ⟨⟨by decide +kernel, by decide +kernel⟩, lw_t13 (List.mem_of_getElem? (i := 67) rfl), lw_t13 (List.mem_of_getElem? (i := 215) rfl), lw_t13 (List.mem_of_getElem? (i := 216) rfl)⟩
theorem lw_p39 : lw_okq (⟨"JumpHallModel", "wears", "(I)I"⟩, 25) := ⟨⟨by decide +kernel, by decide +kernel⟩, lw_t13 (List.mem_of_getElem? (i := 67) rfl), lw_t13 (List.mem_of_getElem? (i := 223) rfl), lw_t13 (List.mem_of_getElem? (i := 224) rfl)⟩
theorem lw_p40 : lw_okq (⟨"JumpHallModel", "on", "(IZ)I"⟩, 25) := ⟨⟨by decide +kernel, by decide +kernel⟩, lw_t13 (List.mem_of_getElem? (i := 67) rfl), lw_t13 (List.mem_of_getElem? (i := 227) rfl), lw_t13 (List.mem_of_getElem? (i := 228) rfl)⟩
theorem lw_p41 : lw_okq (⟨"JumpHallModel", "guardAt", "(I)I"⟩, 25) := ⟨⟨by decide +kernel, by decide +kernel⟩, lw_t13 (List.mem_of_getElem? (i := 67) rfl), lw_t13 (List.mem_of_getElem? (i := 231) rfl), lw_t13 (List.mem_of_getElem? (i := 232) rfl)⟩
theorem lw_p42 : lw_okq (⟨"JumpHallModel", "jumperComes", "(III)I"⟩, 25) := ⟨⟨by decide +kernel, by decide +kernel⟩, lw_t13 (List.mem_of_getElem? (i := 67) rfl), lw_t14 (List.mem_of_getElem? (i := 14) rfl), lw_t14 (List.mem_of_getElem? (i := 15) rfl)⟩
theorem lw_p43 : lw_okq (⟨"JumpHallModel", "upIt", "(II)I"⟩, 25) := ⟨⟨by decide +kernel, by decide +kernel⟩, lw_t13 (List.mem_of_getElem? (i := 67) rfl), lw_t14 (List.mem_of_getElem? (i := 22) rfl), lw_t14 (List.mem_of_getElem? (i := 23) rfl)⟩
theorem lw_p44 : lw_okq (⟨"JumpHallModel", "isJumper", "(I)Z"⟩, 25) := ⟨⟨by decide +kernel, by decide +kernel⟩, lw_t13 (List.mem_of_getElem? (i := 67) rfl), lw_t14 (List.mem_of_getElem? (i := 26) rfl), lw_t14 (List.mem_of_getElem? (i := 27) rfl)⟩
theorem lw_p45 : lw_okq (⟨"JumpHallModel", "upReason", "(II)I"⟩, 25) := ⟨⟨by decide +kernel, by decide +kernel⟩, lw_t13 (List.mem_of_getElem? (i := 67) rfl), lw_t14 (List.mem_of_getElem? (i := 30) rfl), lw_t14 (List.mem_of_getElem? (i := 31) rfl)⟩
theorem lw_p46 : lw_okq (⟨"JumpHallModel", "refuseBy", "(IIIII)I"⟩, 25) := ⟨⟨by decide +kernel, by decide +kernel⟩, lw_t13 (List.mem_of_getElem? (i := 67) rfl), lw_t14 (List.mem_of_getElem? (i := 34) rfl), lw_t14 (List.mem_of_getElem? (i := 35) rfl)⟩
theorem lw_p47 : lw_okq (⟨"JumpHallModel", "downIt", "(I)I"⟩, 25) := ⟨⟨by decide +kernel, by decide +kernel⟩, lw_t13 (List.mem_of_getElem? (i := 67) rfl), lw_t14 (List.mem_of_getElem? (i := 42) rfl), lw_t14 (List.mem_of_getElem? (i := 43) rfl)⟩
def lw_privs_3 : List (MethodName × Nat) := [(⟨"JumpHallModel", "fixIt", "(II)I"⟩, 25), (⟨"JumpHallModel", "isMat", "(I)Z"⟩, 25), (⟨"JumpHallModel", "lowestOn", "(I)I"⟩, 25), (⟨"JumpHallModel", "isOn", "(II)Z"⟩, 25), (⟨"JumpHallModel", "bears", "(I)I"⟩, 25), (⟨"JumpHallModel", "broken", "(I)I"⟩, 25), (⟨"JumpHallModel", "openIt", "(I)I"⟩, 25), (⟨"JumpHallModel", "wears", "(I)I"⟩, 25), (⟨"JumpHallModel", "on", "(IZ)I"⟩, 25), (⟨"JumpHallModel", "guardAt", "(I)I"⟩, 25), (⟨"JumpHallModel", "jumperComes", "(III)I"⟩, 25), (⟨"JumpHallModel", "upIt", "(II)I"⟩, 25), (⟨"JumpHallModel", "isJumper", "(I)Z"⟩, 25), (⟨"JumpHallModel", "upReason", "(II)I"⟩, 25), (⟨"JumpHallModel", "refuseBy", "(IIIII)I"⟩, 25), (⟨"JumpHallModel", "downIt", "(I)I"⟩, 25)]
theorem lw_r3 : ∀ q ∈ lw_privs_3, lw_okq q := List.forall_mem_cons.mpr ⟨lw_p32, List.forall_mem_cons.mpr ⟨lw_p33, List.forall_mem_cons.mpr ⟨lw_p34, List.forall_mem_cons.mpr ⟨lw_p35, List.forall_mem_cons.mpr ⟨lw_p36, List.forall_mem_cons.mpr ⟨lw_p37, List.forall_mem_cons.mpr ⟨lw_p38, List.forall_mem_cons.mpr ⟨lw_p39, List.forall_mem_cons.mpr ⟨lw_p40, List.forall_mem_cons.mpr ⟨lw_p41, List.forall_mem_cons.mpr ⟨lw_p42, List.forall_mem_cons.mpr ⟨lw_p43, List.forall_mem_cons.mpr ⟨lw_p44, List.forall_mem_cons.mpr ⟨lw_p45, List.forall_mem_cons.mpr ⟨lw_p46, List.forall_mem_cons.mpr ⟨lw_p47, fun _ h => absurd h List.not_mem_nil⟩⟩⟩⟩⟩⟩⟩⟩⟩⟩⟩⟩⟩⟩⟩⟩
theorem lw_p48 : lw_okq (⟨"JumpHallModel", "jumpersAt", "(I)I"⟩, 25) := ⟨⟨by decide +kernel, by decide +kernel⟩, lw_t13 (List.mem_of_getElem? (i := 67) rfl), lw_t14 (List.mem_of_getElem? (i := 50) rfl), lw_t14 (List.mem_of_getElem? (i := 51) rfl)⟩
theorem lw_p49 : lw_okq (⟨"JumpHallModel", "sellIt", "(II)I"⟩, 25) := ⟨⟨by decide +kernel, by decide +kernel⟩, lw_t13 (List.mem_of_getElem? (i := 67) rfl), lw_t14 (List.mem_of_getElem? (i := 67) rfl), lw_t14 (List.mem_of_getElem? (i := 68) rfl)⟩
theorem lw_p50 : lw_okq (⟨"JumpHallModel", "ofSize", "(II)I"⟩, 25) := ⟨⟨by decide +kernel, by decide +kernel⟩, lw_t13 (List.mem_of_getElem? (i := 67) rfl), lw_t14 (List.mem_of_getElem? (i := 71) rfl), lw_t14 (List.mem_of_getElem? (i := 72) rfl)⟩
theorem lw_p51 : lw_okq (⟨"JumpHallModel", "placeIt", "(II)I"⟩, 25) := ⟨⟨by decide +kernel, by decide +kernel⟩, lw_t13 (List.mem_of_getElem? (i := 67) rfl), lw_t14 (List.mem_of_getElem? (i := 100) rfl), lw_t14 (List.mem_of_getElem? (i := 101) rfl)⟩
theorem lw_p52 : lw_okq (⟨"JumpHallModel", "isGuard", "(I)Z"⟩, 25) := ⟨⟨by decide +kernel, by decide +kernel⟩, lw_t13 (List.mem_of_getElem? (i := 67) rfl), lw_t14 (List.mem_of_getElem? (i := 104) rfl), lw_t14 (List.mem_of_getElem? (i := 105) rfl)⟩
theorem lw_p53 : lw_okq (⟨"JumpHallModel", "partiesAt", "(I)I"⟩, 25) := ⟨⟨by decide +kernel, by decide +kernel⟩, lw_t13 (List.mem_of_getElem? (i := 67) rfl), lw_t14 (List.mem_of_getElem? (i := 117) rfl), lw_t14 (List.mem_of_getElem? (i := 118) rfl)⟩
theorem lw_p54 : lw_okq (⟨"JumpHallModel", "isParty", "(I)Z"⟩, 25) := ⟨⟨by decide +kernel, by decide +kernel⟩, lw_t13 (List.mem_of_getElem? (i := 67) rfl), lw_t14 (List.mem_of_getElem? (i := 128) rfl), lw_t14 (List.mem_of_getElem? (i := 129) rfl)⟩
theorem lw_p55 : lw_okq (⟨"JumpHallModel", "passIt", "(I)I"⟩, 25) := ⟨⟨by decide +kernel, by decide +kernel⟩, lw_t13 (List.mem_of_getElem? (i := 67) rfl), lw_t14 (List.mem_of_getElem? (i := 145) rfl), lw_t14 (List.mem_of_getElem? (i := 146) rfl)⟩
theorem lw_p56 : lw_okq (⟨"JumpHallModel", "minuteGoes", "()I"⟩, 25) := ⟨⟨by decide +kernel, by decide +kernel⟩, lw_t13 (List.mem_of_getElem? (i := 67) rfl), lw_t14 (List.mem_of_getElem? (i := 150) rfl), lw_t14 (List.mem_of_getElem? (i := 151) rfl)⟩
theorem lw_p57 : lw_okq (⟨"JumpHallModel", "jumps", "(I)V"⟩, 25) := ⟨⟨by decide +kernel, by decide +kernel⟩, lw_t13 (List.mem_of_getElem? (i := 67) rfl), lw_t14 (List.mem_of_getElem? (i := 154) rfl), lw_t14 (List.mem_of_getElem? (i := 155) rfl)⟩
theorem lw_p58 : lw_okq (⟨"JumpHallModel", "sinks", "(I)I"⟩, 25) := ⟨⟨by decide +kernel, by decide +kernel⟩, lw_t13 (List.mem_of_getElem? (i := 67) rfl), lw_t14 (List.mem_of_getElem? (i := 158) rfl), lw_t14 (List.mem_of_getElem? (i := 159) rfl)⟩
theorem lw_p59 : lw_okq (⟨"JumpHallModel", "partyComes", "(I)V"⟩, 25) := ⟨⟨by decide +kernel, by decide +kernel⟩, lw_t13 (List.mem_of_getElem? (i := 67) rfl), lw_t14 (List.mem_of_getElem? (i := 162) rfl), lw_t14 (List.mem_of_getElem? (i := 163) rfl)⟩
theorem lw_p60 : lw_okq (⟨"JumpHallModel", "sign", "(I)V"⟩, 25) := ⟨⟨by decide +kernel, by decide +kernel⟩, lw_t13 (List.mem_of_getElem? (i := 67) rfl), lw_t14 (List.mem_of_getElem? (i := 174) rfl), lw_t14 (List.mem_of_getElem? (i := 175) rfl)⟩
theorem lw_p61 : lw_okq (⟨"JumpHallModel", "allBroken", "()I"⟩, 25) := ⟨⟨by decide +kernel, by decide +kernel⟩, lw_t13 (List.mem_of_getElem? (i := 67) rfl), lw_t14 (List.mem_of_getElem? (i := 190) rfl), lw_t14 (List.mem_of_getElem? (i := 191) rfl)⟩
theorem lw_p62 : lw_okq (⟨"JumpHallModel", "openMats", "()I"⟩, 25) := ⟨⟨by decide +kernel, by decide +kernel⟩, lw_t13 (List.mem_of_getElem? (i := 67) rfl), lw_t14 (List.mem_of_getElem? (i := 198) rfl), lw_t14 (List.mem_of_getElem? (i := 199) rfl)⟩
theorem lw_p63 : lw_okq (⟨"JumpHallModel", "withSocks", "()I"⟩, 25) := ⟨⟨by decide +kernel, by decide +kernel⟩, lw_t13 (List.mem_of_getElem? (i := 67) rfl), lw_t14 (List.mem_of_getElem? (i := 202) rfl), lw_t14 (List.mem_of_getElem? (i := 203) rfl)⟩
def lw_privs_4 : List (MethodName × Nat) := [(⟨"JumpHallModel", "jumpersAt", "(I)I"⟩, 25), (⟨"JumpHallModel", "sellIt", "(II)I"⟩, 25), (⟨"JumpHallModel", "ofSize", "(II)I"⟩, 25), (⟨"JumpHallModel", "placeIt", "(II)I"⟩, 25), (⟨"JumpHallModel", "isGuard", "(I)Z"⟩, 25), (⟨"JumpHallModel", "partiesAt", "(I)I"⟩, 25), (⟨"JumpHallModel", "isParty", "(I)Z"⟩, 25), (⟨"JumpHallModel", "passIt", "(I)I"⟩, 25), (⟨"JumpHallModel", "minuteGoes", "()I"⟩, 25), (⟨"JumpHallModel", "jumps", "(I)V"⟩, 25), (⟨"JumpHallModel", "sinks", "(I)I"⟩, 25), (⟨"JumpHallModel", "partyComes", "(I)V"⟩, 25), (⟨"JumpHallModel", "sign", "(I)V"⟩, 25), (⟨"JumpHallModel", "allBroken", "()I"⟩, 25), (⟨"JumpHallModel", "openMats", "()I"⟩, 25), (⟨"JumpHallModel", "withSocks", "()I"⟩, 25)]
theorem lw_r4 : ∀ q ∈ lw_privs_4, lw_okq q := List.forall_mem_cons.mpr ⟨lw_p48, List.forall_mem_cons.mpr ⟨lw_p49, List.forall_mem_cons.mpr ⟨lw_p50, List.forall_mem_cons.mpr ⟨lw_p51, List.forall_mem_cons.mpr ⟨lw_p52, List.forall_mem_cons.mpr ⟨lw_p53, List.forall_mem_cons.mpr ⟨lw_p54, List.forall_mem_cons.mpr ⟨lw_p55, List.forall_mem_cons.mpr ⟨lw_p56, List.forall_mem_cons.mpr ⟨lw_p57, List.forall_mem_cons.mpr ⟨lw_p58, List.forall_mem_cons.mpr ⟨lw_p59, List.forall_mem_cons.mpr ⟨lw_p60, List.forall_mem_cons.mpr ⟨lw_p61, List.forall_mem_cons.mpr ⟨lw_p62, List.forall_mem_cons.mpr ⟨lw_p63, fun _ h => absurd h List.not_mem_nil⟩⟩⟩⟩⟩⟩⟩⟩⟩⟩⟩⟩⟩⟩⟩⟩
theorem lw_p64 : lw_okq (⟨"JumpHallModel", "pairs", "(I)I"⟩, 25) := ⟨⟨by decide +kernel, by decide +kernel⟩, lw_t13 (List.mem_of_getElem? (i := 67) rfl), lw_t14 (List.mem_of_getElem? (i := 206) rfl), lw_t14 (List.mem_of_getElem? (i := 207) rfl)⟩
theorem lw_p65 : lw_okq (⟨"JumpHallModel", "readCommand", "()V"⟩, 25) := ⟨⟨by decide +kernel, by decide +kernel⟩, lw_t13 (List.mem_of_getElem? (i := 67) rfl), lw_t14 (List.mem_of_getElem? (i := 220) rfl), lw_t14 (List.mem_of_getElem? (i := 221) rfl)⟩
theorem lw_p66 : lw_okq (⟨"JumpHallModel", "wordHere", "()I"⟩, 25) := ⟨⟨by decide +kernel, by decide +kernel⟩, lw_t13 (List.mem_of_getElem? (i := 67) rfl), lw_t14 (List.mem_of_getElem? (i := 224) rfl), lw_t14 (List.mem_of_getElem? (i := 225) rfl)⟩
theorem lw_p67 : lw_okq (⟨"JumpHallModel", "here", "()I"⟩, 25) := ⟨⟨by decide +kernel, by decide +kernel⟩, lw_t13 (List.mem_of_getElem? (i := 67) rfl), lw_t14 (List.mem_of_getElem? (i := 228) rfl), lw_t14 (List.mem_of_getElem? (i := 229) rfl)⟩
theorem lw_p68 : lw_okq (⟨"JumpHallModel", "expects", "(I)V"⟩, 25) := ⟨⟨by decide +kernel, by decide +kernel⟩, lw_t13 (List.mem_of_getElem? (i := 67) rfl), lw_t14 (List.mem_of_getElem? (i := 232) rfl), lw_t14 (List.mem_of_getElem? (i := 233) rfl)⟩
theorem lw_p69 : lw_okq (⟨"JumpHallModel", "number", "()I"⟩, 25) := ⟨⟨by decide +kernel, by decide +kernel⟩, lw_t13 (List.mem_of_getElem? (i := 67) rfl), lw_t14 (List.mem_of_getElem? (i := 236) rfl), lw_t14 (List.mem_of_getElem? (i := 237) rfl)⟩
theorem lw_p70 : lw_okq (⟨"JumpHallModel", "digit", "()I"⟩, 25) := ⟨⟨by decide +kernel, by decide +kernel⟩, lw_t13 (List.mem_of_getElem? (i := 67) rfl), lw_t15 (List.mem_of_getElem? (i := 0) rfl), lw_t15 (List.mem_of_getElem? (i := 1) rfl)⟩
theorem lw_p71 : lw_okq (⟨"JumpHallModel", "does", "(I)I"⟩, 25) := ⟨⟨by decide +kernel, by decide +kernel⟩, lw_t13 (List.mem_of_getElem? (i := 67) rfl), lw_t15 (List.mem_of_getElem? (i := 6) rfl), lw_t15 (List.mem_of_getElem? (i := 7) rfl)⟩
theorem lw_p72 : lw_okq (⟨"JumpHallModel", "refusesAll", "(IZ)I"⟩, 25) := ⟨⟨by decide +kernel, by decide +kernel⟩, lw_t13 (List.mem_of_getElem? (i := 67) rfl), lw_t15 (List.mem_of_getElem? (i := 13) rfl), lw_t15 (List.mem_of_getElem? (i := 14) rfl)⟩
def lw_privs_5 : List (MethodName × Nat) := [(⟨"JumpHallModel", "pairs", "(I)I"⟩, 25), (⟨"JumpHallModel", "readCommand", "()V"⟩, 25), (⟨"JumpHallModel", "wordHere", "()I"⟩, 25), (⟨"JumpHallModel", "here", "()I"⟩, 25), (⟨"JumpHallModel", "expects", "(I)V"⟩, 25), (⟨"JumpHallModel", "number", "()I"⟩, 25), (⟨"JumpHallModel", "digit", "()I"⟩, 25), (⟨"JumpHallModel", "does", "(I)I"⟩, 25), (⟨"JumpHallModel", "refusesAll", "(IZ)I"⟩, 25)]
theorem lw_r5 : ∀ q ∈ lw_privs_5, lw_okq q := List.forall_mem_cons.mpr ⟨lw_p64, List.forall_mem_cons.mpr ⟨lw_p65, List.forall_mem_cons.mpr ⟨lw_p66, List.forall_mem_cons.mpr ⟨lw_p67, List.forall_mem_cons.mpr ⟨lw_p68, List.forall_mem_cons.mpr ⟨lw_p69, List.forall_mem_cons.mpr ⟨lw_p70, List.forall_mem_cons.mpr ⟨lw_p71, List.forall_mem_cons.mpr ⟨lw_p72, fun _ h => absurd h List.not_mem_nil⟩⟩⟩⟩⟩⟩⟩⟩⟩
def lw_privs : List (MethodName × Nat) := lw_privs_1 ++ (lw_privs_2 ++ (lw_privs_3 ++ (lw_privs_4 ++ (lw_privs_5))))
def lw_tbl : List Cond := k2_sels lw_privs ++ tables_1
theorem lw_privs_ok : ∀ q ∈ lw_privs, lw_okq q := by
  show ∀ q ∈ lw_privs_1 ++ (lw_privs_2 ++ (lw_privs_3 ++ (lw_privs_4 ++ (lw_privs_5)))), lw_okq q
  exact List.forall_mem_append.mpr ⟨lw_r1, List.forall_mem_append.mpr ⟨lw_r2, List.forall_mem_append.mpr ⟨lw_r3, List.forall_mem_append.mpr ⟨lw_r4, lw_r5⟩⟩⟩⟩
-- ===== ONE list of words for every method: the tables' words that hold all through a run =====
def lw_all : List Cond := lw_tbl.filter goodWord
/-- a word of the tables by its place: claim/WORDS.tsv -/
theorem lw_w {w : Cond} (i : Nat) (h : lw_tbl[i]? = some w) (g : goodWord w = true) : w ∈ lw_all := List.mem_filter.mpr ⟨List.mem_of_getElem? h, g⟩
theorem lw_all_tbl {w : Cond} (h : w ∈ lw_all) : w ∈ lw_tbl := (List.mem_filter.mp h).1
theorem lw_self : GoodIn lw_all lw_all := fun w h => ⟨h, good_of_word (List.mem_filter.mp h).2⟩
/-- a class's field words, by their places -/
theorem lw_in (ws : List Cond) (ps : List Nat) (hp : ws = ps.filterMap (fun i => lw_tbl[i]?)) (hg : ws.all goodWord = true) : ∀ w ∈ ws, w ∈ lw_all := by
  intro w h
  have h1 := List.all_eq_true.mp hg w h
  rw [hp] at h
  obtain ⟨i, -, hi⟩ := List.mem_filterMap.mp h
  exact lw_w i hi h1
/-- the words of a contract for the method y with code b, L locals, answer r -/
abbrev ws_ (y : MethodName) (b : ByteArray) (L : Nat) (r : Option FieldType) : List Cond := Cond.code y b L r :: lw_all
theorem lw_meth {y : MethodName} {b : ByteArray} {L : Nat} {r : Option FieldType} (h : Cond.code y b L r ∈ lw_all) : GoodIn lw_all (ws_ y b L r) := by
  intro w hw
  rcases List.mem_cons.mp hw with e | e
  · rw [e]
    exact lw_self _ h
  · exact lw_self _ e
theorem lw_app {a c : List Cond} (ha : ∀ w ∈ a, w ∈ lw_all) (hc : GoodIn lw_all c) : GoodIn lw_all (a ++ c) := by
  intro w hw
  rcases List.mem_append.mp hw with e | e
  · exact lw_self w (ha w e)
  · exact hc w e
/-- what a call through an object asks: cwV n hts (lw_V ..) -/
theorem lw_V {own : String} {idx : Nat} {C : String} {y : MethodName} {b : ByteArray} {L : Nat} {r : Option FieldType} (h1 : Cond.methodLink own idx y ∈ lw_all) (h2 : Cond.instanceMethod y ∈ lw_all) (h3 : Cond.selects C y y ∈ lw_all) (h4 : Cond.initialized C ∈ lw_all) (h5 : Cond.code y b L r ∈ lw_all) : GoodIn lw_all (wsV own idx C y (ws_ y b L r)) := by
  refine lw_app ?_ (lw_meth h5)
  intro w hw
  simp only [List.mem_cons, List.not_mem_nil, or_false] at hw
  rcases hw with e | e | e | e
  · rw [e]; exact h1
  · rw [e]; exact h2
  · rw [e]; exact h3
  · rw [e]; exact h4
/-- what a static call asks: va_cwS n hts (lw_S ..) -/
theorem lw_S {own : String} {idx : Nat} {y : MethodName} {b : ByteArray} {L : Nat} {r : Option FieldType} (h1 : Cond.methodLink own idx y ∈ lw_all) (h2 : Cond.static y ∈ lw_all) (h3 : Cond.initialized y.cls ∈ lw_all) (h4 : Cond.code y b L r ∈ lw_all) : GoodIn lw_all (va_wsS own idx y (ws_ y b L r)) := by
  refine lw_app ?_ (lw_meth h4)
  intro w hw
  simp only [List.mem_cons, List.not_mem_nil, or_false] at hw
  rcases hw with e | e | e
  · rw [e]; exact h1
  · rw [e]; exact h2
  · rw [e]; exact h3
/-- the words of a contract for a method WITH HANDLERS (hh: its table) -/
abbrev wsW_ (y : MethodName) (b : ByteArray) (L : Nat) (r : Option FieldType) (hh : List (Nat × Nat × Nat × Nat)) : List Cond := Cond.codeWith y b L r hh :: lw_all
theorem lw_methW {y : MethodName} {b : ByteArray} {L : Nat} {r : Option FieldType} {hh : List (Nat × Nat × Nat × Nat)} (h : Cond.codeWith y b L r hh ∈ lw_all) : GoodIn lw_all (wsW_ y b L r hh) := by
  intro w hw
  rcases List.mem_cons.mp hw with e | e
  · rw [e]
    exact lw_self _ h
  · exact lw_self _ e
/-- any list of words by their places (lw_in), good -/
theorem lw_good {ws : List Cond} (h : ∀ w ∈ ws, w ∈ lw_all) : GoodIn lw_all ws := fun w hw => lw_self w (h w hw)
/-- what a call of a method with handlers asks: vx_cwVW n hts (lw_VW ..), vx_cwSW n hts (lw_SW ..) -/
theorem lw_VW {own : String} {idx : Nat} {C : String} {y : MethodName} {b : ByteArray} {L : Nat} {r : Option FieldType} {hh : List (Nat × Nat × Nat × Nat)} (h1 : Cond.methodLink own idx y ∈ lw_all) (h2 : Cond.instanceMethod y ∈ lw_all) (h3 : Cond.selects C y y ∈ lw_all) (h4 : Cond.initialized C ∈ lw_all) (h5 : Cond.codeWith y b L r hh ∈ lw_all) : GoodIn lw_all (wsV own idx C y (wsW_ y b L r hh)) := by
  refine lw_app ?_ (lw_methW h5)
  intro w hw
  simp only [List.mem_cons, List.not_mem_nil, or_false] at hw
  rcases hw with e | e | e | e
  · rw [e]; exact h1
  · rw [e]; exact h2
  · rw [e]; exact h3
  · rw [e]; exact h4
theorem lw_SW {own : String} {idx : Nat} {y : MethodName} {b : ByteArray} {L : Nat} {r : Option FieldType} {hh : List (Nat × Nat × Nat × Nat)} (h1 : Cond.methodLink own idx y ∈ lw_all) (h2 : Cond.static y ∈ lw_all) (h3 : Cond.initialized y.cls ∈ lw_all) (h4 : Cond.codeWith y b L r hh ∈ lw_all) : GoodIn lw_all (va_wsS own idx y (wsW_ y b L r hh)) := by
  refine lw_app ?_ (lw_methW h4)
  intro w hw
  simp only [List.mem_cons, List.not_mem_nil, or_false] at hw
  rcases hw with e | e | e
  · rw [e]; exact h1
  · rw [e]; exact h2
  · rw [e]; exact h3
/-- a word by its place in its run of the tables -/
theorem lw_at {r : List Cond} (hr : ∀ w ∈ r, w ∈ lw_tbl) {w : Cond} (i : Nat) (h : r[i]? = some w) : w ∈ lw_tbl := hr w (List.mem_of_getElem? h)
theorem lw_g {w : Cond} (h : w ∈ lw_tbl) (g : goodWord w = true) : w ∈ lw_all := List.mem_filter.mpr ⟨h, g⟩
theorem lw_ms : ∀ w ∈ k2_sels lw_privs, w ∈ lw_tbl := fun w h => show w ∈ k2_sels lw_privs ++ tables_1 from List.mem_append_left _ h
theorem lw_m1 : ∀ w ∈ tables_1_1, w ∈ lw_tbl := fun w h => show w ∈ k2_sels lw_privs ++ tables_1 from List.mem_append_right (k2_sels lw_privs) (show w ∈ tables_1 from List.mem_append_left _ h)
theorem lw_m2 : ∀ w ∈ tables_1_2, w ∈ lw_tbl := fun w h => show w ∈ k2_sels lw_privs ++ tables_1 from List.mem_append_right (k2_sels lw_privs) (show w ∈ tables_1 from List.mem_append_right _ (List.mem_append_left _ h))
theorem lw_m3 : ∀ w ∈ tables_1_3, w ∈ lw_tbl := fun w h => show w ∈ k2_sels lw_privs ++ tables_1 from List.mem_append_right (k2_sels lw_privs) (show w ∈ tables_1 from List.mem_append_right _ (List.mem_append_right _ (List.mem_append_left _ h)))
theorem lw_m4 : ∀ w ∈ tables_1_4, w ∈ lw_tbl := fun w h => show w ∈ k2_sels lw_privs ++ tables_1 from List.mem_append_right (k2_sels lw_privs) (show w ∈ tables_1 from List.mem_append_right _ (List.mem_append_right _ (List.mem_append_right _ (List.mem_append_left _ h))))
theorem lw_m5 : ∀ w ∈ tables_1_5, w ∈ lw_tbl := fun w h => show w ∈ k2_sels lw_privs ++ tables_1 from List.mem_append_right (k2_sels lw_privs) (show w ∈ tables_1 from List.mem_append_right _ (List.mem_append_right _ (List.mem_append_right _ (List.mem_append_right _ (List.mem_append_left _ h)))))
theorem lw_m6 : ∀ w ∈ tables_1_6, w ∈ lw_tbl := fun w h => show w ∈ k2_sels lw_privs ++ tables_1 from List.mem_append_right (k2_sels lw_privs) (show w ∈ tables_1 from List.mem_append_right _ (List.mem_append_right _ (List.mem_append_right _ (List.mem_append_right _ (List.mem_append_right _ (List.mem_append_left _ h))))))
theorem lw_m7 : ∀ w ∈ tables_1_7, w ∈ lw_tbl := fun w h => show w ∈ k2_sels lw_privs ++ tables_1 from List.mem_append_right (k2_sels lw_privs) (show w ∈ tables_1 from List.mem_append_right _ (List.mem_append_right _ (List.mem_append_right _ (List.mem_append_right _ (List.mem_append_right _ (List.mem_append_right _ (List.mem_append_left _ h)))))))
theorem lw_m8 : ∀ w ∈ tables_1_8, w ∈ lw_tbl := fun w h => show w ∈ k2_sels lw_privs ++ tables_1 from List.mem_append_right (k2_sels lw_privs) (show w ∈ tables_1 from List.mem_append_right _ (List.mem_append_right _ (List.mem_append_right _ (List.mem_append_right _ (List.mem_append_right _ (List.mem_append_right _ (List.mem_append_right _ (List.mem_append_left _ h))))))))
theorem lw_m9 : ∀ w ∈ tables_1_9, w ∈ lw_tbl := fun w h => show w ∈ k2_sels lw_privs ++ tables_1 from List.mem_append_right (k2_sels lw_privs) (show w ∈ tables_1 from List.mem_append_right _ (List.mem_append_right _ (List.mem_append_right _ (List.mem_append_right _ (List.mem_append_right _ (List.mem_append_right _ (List.mem_append_right _ (List.mem_append_right _ (List.mem_append_left _ h)))))))))
theorem lw_m10 : ∀ w ∈ tables_1_10, w ∈ lw_tbl := fun w h => show w ∈ k2_sels lw_privs ++ tables_1 from List.mem_append_right (k2_sels lw_privs) (show w ∈ tables_1 from List.mem_append_right _ (List.mem_append_right _ (List.mem_append_right _ (List.mem_append_right _ (List.mem_append_right _ (List.mem_append_right _ (List.mem_append_right _ (List.mem_append_right _ (List.mem_append_right _ (List.mem_append_left _ h))))))))))
theorem lw_m11 : ∀ w ∈ tables_1_11, w ∈ lw_tbl := fun w h => show w ∈ k2_sels lw_privs ++ tables_1 from List.mem_append_right (k2_sels lw_privs) (show w ∈ tables_1 from List.mem_append_right _ (List.mem_append_right _ (List.mem_append_right _ (List.mem_append_right _ (List.mem_append_right _ (List.mem_append_right _ (List.mem_append_right _ (List.mem_append_right _ (List.mem_append_right _ (List.mem_append_right _ (List.mem_append_left _ h)))))))))))
theorem lw_m12 : ∀ w ∈ tables_1_12, w ∈ lw_tbl := fun w h => show w ∈ k2_sels lw_privs ++ tables_1 from List.mem_append_right (k2_sels lw_privs) (show w ∈ tables_1 from List.mem_append_right _ (List.mem_append_right _ (List.mem_append_right _ (List.mem_append_right _ (List.mem_append_right _ (List.mem_append_right _ (List.mem_append_right _ (List.mem_append_right _ (List.mem_append_right _ (List.mem_append_right _ (List.mem_append_right _ (List.mem_append_left _ h))))))))))))
theorem lw_m13 : ∀ w ∈ tables_1_13, w ∈ lw_tbl := fun w h => show w ∈ k2_sels lw_privs ++ tables_1 from List.mem_append_right (k2_sels lw_privs) (show w ∈ tables_1 from List.mem_append_right _ (List.mem_append_right _ (List.mem_append_right _ (List.mem_append_right _ (List.mem_append_right _ (List.mem_append_right _ (List.mem_append_right _ (List.mem_append_right _ (List.mem_append_right _ (List.mem_append_right _ (List.mem_append_right _ (List.mem_append_right _ (List.mem_append_left _ h)))))))))))))
theorem lw_m14 : ∀ w ∈ tables_1_14, w ∈ lw_tbl := fun w h => show w ∈ k2_sels lw_privs ++ tables_1 from List.mem_append_right (k2_sels lw_privs) (show w ∈ tables_1 from List.mem_append_right _ (List.mem_append_right _ (List.mem_append_right _ (List.mem_append_right _ (List.mem_append_right _ (List.mem_append_right _ (List.mem_append_right _ (List.mem_append_right _ (List.mem_append_right _ (List.mem_append_right _ (List.mem_append_right _ (List.mem_append_right _ (List.mem_append_right _ (List.mem_append_left _ h))))))))))))))
theorem lw_m15 : ∀ w ∈ tables_1_15, w ∈ lw_tbl := fun w h => show w ∈ k2_sels lw_privs ++ tables_1 from List.mem_append_right (k2_sels lw_privs) (show w ∈ tables_1 from List.mem_append_right _ (List.mem_append_right _ (List.mem_append_right _ (List.mem_append_right _ (List.mem_append_right _ (List.mem_append_right _ (List.mem_append_right _ (List.mem_append_right _ (List.mem_append_right _ (List.mem_append_right _ (List.mem_append_right _ (List.mem_append_right _ (List.mem_append_right _ (List.mem_append_right _ h))))))))))))))
theorem qs0 : (Cond.selects "java/lang/Throwable" ⟨"java/lang/Throwable", "fillInStackTrace", "(I)Ljava/lang/Throwable;"⟩ ⟨"java/lang/Throwable", "fillInStackTrace", "(I)Ljava/lang/Throwable;"⟩) ∈ lw_all := lw_g (lw_at lw_ms 0 rfl) rfl
theorem qs1 : (Cond.selects "java/util/ArrayList" ⟨"java/util/ArrayList", "add", "(Ljava/lang/Object;[Ljava/lang/Object;I)V"⟩ ⟨"java/util/ArrayList", "add", "(Ljava/lang/Object;[Ljava/lang/Object;I)V"⟩) ∈ lw_all := lw_g (lw_at lw_ms 1 rfl) rfl
theorem qs2 : (Cond.selects "java/util/ArrayList" ⟨"java/util/ArrayList", "grow", "()[Ljava/lang/Object;"⟩ ⟨"java/util/ArrayList", "grow", "()[Ljava/lang/Object;"⟩) ∈ lw_all := lw_g (lw_at lw_ms 2 rfl) rfl
theorem qs3 : (Cond.selects "java/util/ArrayList" ⟨"java/util/ArrayList", "grow", "(I)[Ljava/lang/Object;"⟩ ⟨"java/util/ArrayList", "grow", "(I)[Ljava/lang/Object;"⟩) ∈ lw_all := lw_g (lw_at lw_ms 3 rfl) rfl
theorem qs4 : (Cond.selects "JumpHall" ⟨"JumpHall", "does", "(LJumpHall$Deed;)I"⟩ ⟨"JumpHall", "does", "(LJumpHall$Deed;)I"⟩) ∈ lw_all := lw_g (lw_at lw_ms 4 rfl) rfl
theorem qs5 : (Cond.selects "java/util/ArrayList" ⟨"java/util/ArrayList", "fastRemove", "([Ljava/lang/Object;I)V"⟩ ⟨"java/util/ArrayList", "fastRemove", "([Ljava/lang/Object;I)V"⟩) ∈ lw_all := lw_g (lw_at lw_ms 5 rfl) rfl
theorem qs6 : (Cond.selects "JumpHall" ⟨"JumpHall", "matAt", "(I)LJumpHall$Mat;"⟩ ⟨"JumpHall", "matAt", "(I)LJumpHall$Mat;"⟩) ∈ lw_all := lw_g (lw_at lw_ms 6 rfl) rfl
theorem qs7 : (Cond.selects "JumpHall$Hall" ⟨"JumpHall$Hall", "checkUp", "(LJumpHall$Jumper;I)V"⟩ ⟨"JumpHall$Hall", "checkUp", "(LJumpHall$Jumper;I)V"⟩) ∈ lw_all := lw_g (lw_at lw_ms 7 rfl) rfl
theorem qs8 : (Cond.selects "JumpHall$Hall" ⟨"JumpHall$Hall", "checkBearing", "(LJumpHall$Jumper;I)V"⟩ ⟨"JumpHall$Hall", "checkBearing", "(LJumpHall$Jumper;I)V"⟩) ∈ lw_all := lw_g (lw_at lw_ms 8 rfl) rfl
theorem qs9 : (Cond.selects "JumpHall" ⟨"JumpHall", "jumperAt", "(I)LJumpHall$Jumper;"⟩ ⟨"JumpHall", "jumperAt", "(I)LJumpHall$Jumper;"⟩) ∈ lw_all := lw_g (lw_at lw_ms 9 rfl) rfl
theorem qs10 : (Cond.selects "JumpHall" ⟨"JumpHall", "partyAt", "(I)LJumpHall$Party;"⟩ ⟨"JumpHall", "partyAt", "(I)LJumpHall$Party;"⟩) ∈ lw_all := lw_g (lw_at lw_ms 10 rfl) rfl
theorem qs11 : (Cond.selects "JumpHall$Hall" ⟨"JumpHall$Hall", "minuteGoesBy", "()I"⟩ ⟨"JumpHall$Hall", "minuteGoesBy", "()I"⟩) ∈ lw_all := lw_g (lw_at lw_ms 11 rfl) rfl
theorem qs12 : (Cond.selects "JumpHall$Hall" ⟨"JumpHall$Hall", "wearMats", "()V"⟩ ⟨"JumpHall$Hall", "wearMats", "()V"⟩) ∈ lw_all := lw_g (lw_at lw_ms 12 rfl) rfl
theorem qs13 : (Cond.selects "JumpHall$Hall" ⟨"JumpHall$Hall", "clears", "(I)I"⟩ ⟨"JumpHall$Hall", "clears", "(I)I"⟩) ∈ lw_all := lw_g (lw_at lw_ms 13 rfl) rfl
theorem qs14 : (Cond.selects "JumpHall$Hall" ⟨"JumpHall$Hall", "comes", "(I)V"⟩ ⟨"JumpHall$Hall", "comes", "(I)V"⟩) ∈ lw_all := lw_g (lw_at lw_ms 14 rfl) rfl
theorem qs15 : (Cond.selects "JumpHall$Parser" ⟨"JumpHall$Parser", "command", "()LJumpHall$Command;"⟩ ⟨"JumpHall$Parser", "command", "()LJumpHall$Command;"⟩) ∈ lw_all := lw_g (lw_at lw_ms 15 rfl) rfl
theorem qs16 : (Cond.selects "JumpHall$Parser" ⟨"JumpHall$Parser", "word", "()Ljava/lang/String;"⟩ ⟨"JumpHall$Parser", "word", "()Ljava/lang/String;"⟩) ∈ lw_all := lw_g (lw_at lw_ms 16 rfl) rfl
theorem qs17 : (Cond.selects "JumpHall$Parser" ⟨"JumpHall$Parser", "peek", "()C"⟩ ⟨"JumpHall$Parser", "peek", "()C"⟩) ∈ lw_all := lw_g (lw_at lw_ms 17 rfl) rfl
theorem qs18 : (Cond.selects "JumpHall$Parser" ⟨"JumpHall$Parser", "number", "()I"⟩ ⟨"JumpHall$Parser", "number", "()I"⟩) ∈ lw_all := lw_g (lw_at lw_ms 18 rfl) rfl
theorem qs19 : (Cond.selects "JumpHall$Parser" ⟨"JumpHall$Parser", "next", "(CC)I"⟩ ⟨"JumpHall$Parser", "next", "(CC)I"⟩) ∈ lw_all := lw_g (lw_at lw_ms 19 rfl) rfl
theorem qs20 : (Cond.selects "JumpHall$Command" ⟨"JumpHall$Command", "deed", "(LJumpHall$Hall;)LJumpHall$Deed;"⟩ ⟨"JumpHall$Command", "deed", "(LJumpHall$Hall;)LJumpHall$Deed;"⟩) ∈ lw_all := lw_g (lw_at lw_ms 20 rfl) rfl
theorem qs21 : (Cond.selects "JumpHall$Command" ⟨"JumpHall$Command", "lambda$deed$0", "(LJumpHall$Hall;)I"⟩ ⟨"JumpHall$Command", "lambda$deed$0", "(LJumpHall$Hall;)I"⟩) ∈ lw_all := lw_g (lw_at lw_ms 21 rfl) rfl
theorem qs22 : (Cond.selects "JumpHall$Command" ⟨"JumpHall$Command", "lambda$deed$1", "(LJumpHall$Hall;)I"⟩ ⟨"JumpHall$Command", "lambda$deed$1", "(LJumpHall$Hall;)I"⟩) ∈ lw_all := lw_g (lw_at lw_ms 22 rfl) rfl
theorem qs23 : (Cond.selects "JumpHall$Command" ⟨"JumpHall$Command", "lambda$deed$2", "(LJumpHall$Hall;)I"⟩ ⟨"JumpHall$Command", "lambda$deed$2", "(LJumpHall$Hall;)I"⟩) ∈ lw_all := lw_g (lw_at lw_ms 23 rfl) rfl
theorem qs24 : (Cond.selects "JumpHall$Command" ⟨"JumpHall$Command", "lambda$deed$3", "(LJumpHall$Hall;)I"⟩ ⟨"JumpHall$Command", "lambda$deed$3", "(LJumpHall$Hall;)I"⟩) ∈ lw_all := lw_g (lw_at lw_ms 24 rfl) rfl
theorem qs25 : (Cond.selects "JumpHall$Command" ⟨"JumpHall$Command", "lambda$deed$4", "(LJumpHall$Hall;)I"⟩ ⟨"JumpHall$Command", "lambda$deed$4", "(LJumpHall$Hall;)I"⟩) ∈ lw_all := lw_g (lw_at lw_ms 25 rfl) rfl
theorem qs26 : (Cond.selects "JumpHall$Command" ⟨"JumpHall$Command", "lambda$deed$5", "(LJumpHall$Hall;)I"⟩ ⟨"JumpHall$Command", "lambda$deed$5", "(LJumpHall$Hall;)I"⟩) ∈ lw_all := lw_g (lw_at lw_ms 26 rfl) rfl
theorem qs27 : (Cond.selects "JumpHall$Command" ⟨"JumpHall$Command", "lambda$deed$6", "(LJumpHall$Hall;)I"⟩ ⟨"JumpHall$Command", "lambda$deed$6", "(LJumpHall$Hall;)I"⟩) ∈ lw_all := lw_g (lw_at lw_ms 27 rfl) rfl
theorem qs28 : (Cond.selects "JumpHallModel" ⟨"JumpHallModel", "layAside", "()V"⟩ ⟨"JumpHallModel", "layAside", "()V"⟩) ∈ lw_all := lw_g (lw_at lw_ms 28 rfl) rfl
theorem qs29 : (Cond.selects "JumpHallModel" ⟨"JumpHallModel", "refuse", "(III)I"⟩ ⟨"JumpHallModel", "refuse", "(III)I"⟩) ∈ lw_all := lw_g (lw_at lw_ms 29 rfl) rfl
theorem qs30 : (Cond.selects "JumpHallModel" ⟨"JumpHallModel", "throwing", "(I)I"⟩ ⟨"JumpHallModel", "throwing", "(I)I"⟩) ∈ lw_all := lw_g (lw_at lw_ms 30 rfl) rfl
theorem qs31 : (Cond.selects "JumpHallModel" ⟨"JumpHallModel", "changed", "(I)I"⟩ ⟨"JumpHallModel", "changed", "(I)I"⟩) ∈ lw_all := lw_g (lw_at lw_ms 31 rfl) rfl
theorem qs32 : (Cond.selects "JumpHallModel" ⟨"JumpHallModel", "fixIt", "(II)I"⟩ ⟨"JumpHallModel", "fixIt", "(II)I"⟩) ∈ lw_all := lw_g (lw_at lw_ms 32 rfl) rfl
theorem qs33 : (Cond.selects "JumpHallModel" ⟨"JumpHallModel", "isMat", "(I)Z"⟩ ⟨"JumpHallModel", "isMat", "(I)Z"⟩) ∈ lw_all := lw_g (lw_at lw_ms 33 rfl) rfl
theorem qs34 : (Cond.selects "JumpHallModel" ⟨"JumpHallModel", "lowestOn", "(I)I"⟩ ⟨"JumpHallModel", "lowestOn", "(I)I"⟩) ∈ lw_all := lw_g (lw_at lw_ms 34 rfl) rfl
theorem qs35 : (Cond.selects "JumpHallModel" ⟨"JumpHallModel", "isOn", "(II)Z"⟩ ⟨"JumpHallModel", "isOn", "(II)Z"⟩) ∈ lw_all := lw_g (lw_at lw_ms 35 rfl) rfl
theorem qs36 : (Cond.selects "JumpHallModel" ⟨"JumpHallModel", "bears", "(I)I"⟩ ⟨"JumpHallModel", "bears", "(I)I"⟩) ∈ lw_all := lw_g (lw_at lw_ms 36 rfl) rfl
theorem qs37 : (Cond.selects "JumpHallModel" ⟨"JumpHallModel", "broken", "(I)I"⟩ ⟨"JumpHallModel", "broken", "(I)I"⟩) ∈ lw_all := lw_g (lw_at lw_ms 37 rfl) rfl
theorem qs38 : (Cond.selects "JumpHallModel" ⟨"JumpHallModel", "openIt", "(I)I"⟩ ⟨"JumpHallModel", "openIt", "(I)I"⟩) ∈ lw_all := lw_g (lw_at lw_ms 38 rfl) rfl
theorem qs39 : (Cond.selects "JumpHallModel" ⟨"JumpHallModel", "wears", "(I)I"⟩ ⟨"JumpHallModel", "wears", "(I)I"⟩) ∈ lw_all := lw_g (lw_at lw_ms 39 rfl) rfl
theorem qs40 : (Cond.selects "JumpHallModel" ⟨"JumpHallModel", "on", "(IZ)I"⟩ ⟨"JumpHallModel", "on", "(IZ)I"⟩) ∈ lw_all := lw_g (lw_at lw_ms 40 rfl) rfl
theorem qs41 : (Cond.selects "JumpHallModel" ⟨"JumpHallModel", "guardAt", "(I)I"⟩ ⟨"JumpHallModel", "guardAt", "(I)I"⟩) ∈ lw_all := lw_g (lw_at lw_ms 41 rfl) rfl
theorem qs42 : (Cond.selects "JumpHallModel" ⟨"JumpHallModel", "jumperComes", "(III)I"⟩ ⟨"JumpHallModel", "jumperComes", "(III)I"⟩) ∈ lw_all := lw_g (lw_at lw_ms 42 rfl) rfl
theorem qs43 : (Cond.selects "JumpHallModel" ⟨"JumpHallModel", "upIt", "(II)I"⟩ ⟨"JumpHallModel", "upIt", "(II)I"⟩) ∈ lw_all := lw_g (lw_at lw_ms 43 rfl) rfl
theorem qs44 : (Cond.selects "JumpHallModel" ⟨"JumpHallModel", "isJumper", "(I)Z"⟩ ⟨"JumpHallModel", "isJumper", "(I)Z"⟩) ∈ lw_all := lw_g (lw_at lw_ms 44 rfl) rfl
theorem qs45 : (Cond.selects "JumpHallModel" ⟨"JumpHallModel", "upReason", "(II)I"⟩ ⟨"JumpHallModel", "upReason", "(II)I"⟩) ∈ lw_all := lw_g (lw_at lw_ms 45 rfl) rfl
theorem qs46 : (Cond.selects "JumpHallModel" ⟨"JumpHallModel", "refuseBy", "(IIIII)I"⟩ ⟨"JumpHallModel", "refuseBy", "(IIIII)I"⟩) ∈ lw_all := lw_g (lw_at lw_ms 46 rfl) rfl
theorem qs47 : (Cond.selects "JumpHallModel" ⟨"JumpHallModel", "downIt", "(I)I"⟩ ⟨"JumpHallModel", "downIt", "(I)I"⟩) ∈ lw_all := lw_g (lw_at lw_ms 47 rfl) rfl
theorem qs48 : (Cond.selects "JumpHallModel" ⟨"JumpHallModel", "jumpersAt", "(I)I"⟩ ⟨"JumpHallModel", "jumpersAt", "(I)I"⟩) ∈ lw_all := lw_g (lw_at lw_ms 48 rfl) rfl
theorem qs49 : (Cond.selects "JumpHallModel" ⟨"JumpHallModel", "sellIt", "(II)I"⟩ ⟨"JumpHallModel", "sellIt", "(II)I"⟩) ∈ lw_all := lw_g (lw_at lw_ms 49 rfl) rfl
theorem qs50 : (Cond.selects "JumpHallModel" ⟨"JumpHallModel", "ofSize", "(II)I"⟩ ⟨"JumpHallModel", "ofSize", "(II)I"⟩) ∈ lw_all := lw_g (lw_at lw_ms 50 rfl) rfl
theorem qs51 : (Cond.selects "JumpHallModel" ⟨"JumpHallModel", "placeIt", "(II)I"⟩ ⟨"JumpHallModel", "placeIt", "(II)I"⟩) ∈ lw_all := lw_g (lw_at lw_ms 51 rfl) rfl
theorem qs52 : (Cond.selects "JumpHallModel" ⟨"JumpHallModel", "isGuard", "(I)Z"⟩ ⟨"JumpHallModel", "isGuard", "(I)Z"⟩) ∈ lw_all := lw_g (lw_at lw_ms 52 rfl) rfl
theorem qs53 : (Cond.selects "JumpHallModel" ⟨"JumpHallModel", "partiesAt", "(I)I"⟩ ⟨"JumpHallModel", "partiesAt", "(I)I"⟩) ∈ lw_all := lw_g (lw_at lw_ms 53 rfl) rfl
theorem qs54 : (Cond.selects "JumpHallModel" ⟨"JumpHallModel", "isParty", "(I)Z"⟩ ⟨"JumpHallModel", "isParty", "(I)Z"⟩) ∈ lw_all := lw_g (lw_at lw_ms 54 rfl) rfl
theorem qs55 : (Cond.selects "JumpHallModel" ⟨"JumpHallModel", "passIt", "(I)I"⟩ ⟨"JumpHallModel", "passIt", "(I)I"⟩) ∈ lw_all := lw_g (lw_at lw_ms 55 rfl) rfl
theorem qs56 : (Cond.selects "JumpHallModel" ⟨"JumpHallModel", "minuteGoes", "()I"⟩ ⟨"JumpHallModel", "minuteGoes", "()I"⟩) ∈ lw_all := lw_g (lw_at lw_ms 56 rfl) rfl
theorem qs57 : (Cond.selects "JumpHallModel" ⟨"JumpHallModel", "jumps", "(I)V"⟩ ⟨"JumpHallModel", "jumps", "(I)V"⟩) ∈ lw_all := lw_g (lw_at lw_ms 57 rfl) rfl
theorem qs58 : (Cond.selects "JumpHallModel" ⟨"JumpHallModel", "sinks", "(I)I"⟩ ⟨"JumpHallModel", "sinks", "(I)I"⟩) ∈ lw_all := lw_g (lw_at lw_ms 58 rfl) rfl
theorem qs59 : (Cond.selects "JumpHallModel" ⟨"JumpHallModel", "partyComes", "(I)V"⟩ ⟨"JumpHallModel", "partyComes", "(I)V"⟩) ∈ lw_all := lw_g (lw_at lw_ms 59 rfl) rfl
theorem qs60 : (Cond.selects "JumpHallModel" ⟨"JumpHallModel", "sign", "(I)V"⟩ ⟨"JumpHallModel", "sign", "(I)V"⟩) ∈ lw_all := lw_g (lw_at lw_ms 60 rfl) rfl
theorem qs61 : (Cond.selects "JumpHallModel" ⟨"JumpHallModel", "allBroken", "()I"⟩ ⟨"JumpHallModel", "allBroken", "()I"⟩) ∈ lw_all := lw_g (lw_at lw_ms 61 rfl) rfl
theorem qs62 : (Cond.selects "JumpHallModel" ⟨"JumpHallModel", "openMats", "()I"⟩ ⟨"JumpHallModel", "openMats", "()I"⟩) ∈ lw_all := lw_g (lw_at lw_ms 62 rfl) rfl
theorem qs63 : (Cond.selects "JumpHallModel" ⟨"JumpHallModel", "withSocks", "()I"⟩ ⟨"JumpHallModel", "withSocks", "()I"⟩) ∈ lw_all := lw_g (lw_at lw_ms 63 rfl) rfl
theorem qs64 : (Cond.selects "JumpHallModel" ⟨"JumpHallModel", "pairs", "(I)I"⟩ ⟨"JumpHallModel", "pairs", "(I)I"⟩) ∈ lw_all := lw_g (lw_at lw_ms 64 rfl) rfl
theorem qs65 : (Cond.selects "JumpHallModel" ⟨"JumpHallModel", "readCommand", "()V"⟩ ⟨"JumpHallModel", "readCommand", "()V"⟩) ∈ lw_all := lw_g (lw_at lw_ms 65 rfl) rfl
theorem qs66 : (Cond.selects "JumpHallModel" ⟨"JumpHallModel", "wordHere", "()I"⟩ ⟨"JumpHallModel", "wordHere", "()I"⟩) ∈ lw_all := lw_g (lw_at lw_ms 66 rfl) rfl
theorem qs67 : (Cond.selects "JumpHallModel" ⟨"JumpHallModel", "here", "()I"⟩ ⟨"JumpHallModel", "here", "()I"⟩) ∈ lw_all := lw_g (lw_at lw_ms 67 rfl) rfl
theorem qs68 : (Cond.selects "JumpHallModel" ⟨"JumpHallModel", "expects", "(I)V"⟩ ⟨"JumpHallModel", "expects", "(I)V"⟩) ∈ lw_all := lw_g (lw_at lw_ms 68 rfl) rfl
theorem qs69 : (Cond.selects "JumpHallModel" ⟨"JumpHallModel", "number", "()I"⟩ ⟨"JumpHallModel", "number", "()I"⟩) ∈ lw_all := lw_g (lw_at lw_ms 69 rfl) rfl
theorem qs70 : (Cond.selects "JumpHallModel" ⟨"JumpHallModel", "digit", "()I"⟩ ⟨"JumpHallModel", "digit", "()I"⟩) ∈ lw_all := lw_g (lw_at lw_ms 70 rfl) rfl
theorem qs71 : (Cond.selects "JumpHallModel" ⟨"JumpHallModel", "does", "(I)I"⟩ ⟨"JumpHallModel", "does", "(I)I"⟩) ∈ lw_all := lw_g (lw_at lw_ms 71 rfl) rfl
theorem qs72 : (Cond.selects "JumpHallModel" ⟨"JumpHallModel", "refusesAll", "(IZ)I"⟩ ⟨"JumpHallModel", "refusesAll", "(IZ)I"⟩) ∈ lw_all := lw_g (lw_at lw_ms 72 rfl) rfl
