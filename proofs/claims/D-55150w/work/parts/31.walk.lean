section WK
variable {l : Launch} {s0 : State} {a0 : Array Value} {K : Nat → Nat} {lam : Nat → ClassId}
variable {p : Program} {e : Env} {R : Room} {s : State} {m : MethodId} {args : Array Value} {below : List Frame} {meth : Method} {c : Code} {b : AH}
theorem w_J2_addAll_j56 {r : Except Nat (Int32) × AH} (GA : GA l s0 a0 K lam) (Z : WZ l s0 a0 K p s m c cJ2_addAll yJ2_addAll.cls 6 b R 4 115 meth [] (some (.boolean)) yJ2_addAll) (v0 : Option Nat) (v2 : Option Nat) (v3 : Int32) (v4 : Option Nat) (v5 : Int32)   {h : AH} {ls : Array Slot} (hl : LV ls 6 [(0, vR v0), (2, vR v2), (3, vI v3), (4, vR v4), (5, vI v5)]) (hf : f_J2_addAll_j56 K v0 v2 v3 v4 v5 h = some r) : AW s0 K lam p l e R s m args below meth c (AQ s0 K lam below oI b r s) b h (F0 m 56 ls []) := by
  unfold f_J2_addAll_j56 at hf
  have X := Z.1.1
  refine a_aload_n (pc := 56) X dJ2_addAll_56 rfl hl 1 rfl ?_
  refine AW.lift (fun _ _ _ _ k => lv_iconst (pc := 57) (v := (0 : Int32)) X.2.2.1 X.2.2.2.1 dJ2_addAll_57 rfl k) ?_
  refine a_aload (pc := 58) X dJ2_addAll_58 hl 3 rfl ?_
  refine a_iload (pc := 60) X dJ2_addAll_60 hl 4 rfl ?_
  refine a_iload_n (pc := 62) X dJ2_addAll_62 rfl hl 2 rfl ?_
  refine a_acpR (pc := 63) (rs := []) Z.1 q1094 q587 q586 q95 (by decide) (by decide) hl.1 (Nat.le_of_ble_eq_true rfl) (cs_java_lang_Object GA) dJ2_addAll_63 hf (fun h hf => ?_)
  refine AW.eq (g2 := F0 m 66 ls []) rfl ?_
  refine a_aload_n (pc := 66) X dJ2_addAll_66 rfl hl 0 rfl ?_
  refine a_iload (pc := 67) X dJ2_addAll_67 hl 4 rfl ?_
  refine a_iload_n (pc := 69) X dJ2_addAll_69 rfl hl 2 rfl ?_
  refine AW.lift (fun _ _ _ _ k => lv_iadd (pc := 70) X.2.2.1 X.2.2.2.1 dJ2_addAll_70 k) ?_
  refine a_put (pc := 71) (φ := 2501) X Z.1.2.1 Z.1.2.2.1 (gw X.1 X.2.1 q169) (fun _ q => q) (by decide) rfl rfl dJ2_addAll_71 hf (fun h hf => ?_)
  refine AW.lift (fun _ _ _ _ k => lv_iconst (pc := 74) (v := (1 : Int32)) X.2.2.1 X.2.2.2.1 dJ2_addAll_74 rfl k) ?_
  exact a_zreturn X Z.2.2.1 rfl Z.2.2.2.1 dJ2_addAll_75 hf
theorem np_J2_addAll : npar yJ2_addAll.desc 1 := by unfold npar; decide +kernel
theorem hy_J2_addAll : yJ2_addAll.cls ≠ "java/lang/invoke/MethodHandle" ∧ yJ2_addAll.cls ≠ "java/lang/invoke/VarHandle" := by decide +kernel
theorem w_J2_addAll (GA : GA l s0 a0 K lam) (v0 : Option Nat) (v1 : Option Nat) : AMet l s0 K lam yJ2_addAll (Cond.code yJ2_addAll cJ2_addAll (6 : Nat) (Option.some ClassFile.FieldType.boolean)) 4 115 [vR v0, vR v1] oI (f_J2_addAll K v0 v1) := by
  refine AMet.of GA.1 (plainFor_of_name (by decide +kernel)) (Nat.le_of_ble_eq_true rfl) ?_
  intro b r hf p e s m args below meth c X hr hlk hnm hnd ht ls hl
  have Z : WZ l s0 a0 K p s m c cJ2_addAll yJ2_addAll.cls 6 b { frames := 4, cells := K 0 - aX b, slots := K 1 - aW b, locals := 115 } 4 115 meth [] (some (.boolean)) yJ2_addAll := ⟨⟨X, GA.2.1, GA.2.2.1, rfl, rfl, Nat.le_refl _, Nat.le_refl _⟩, tab_nil ht, hr, hlk, hnm, hnd⟩
  unfold f_J2_addAll at hf
  clear hr hlk hnm hnd ht
  refine a_aload_n (pc := 0) X dJ2_addAll_0 rfl hl 1 rfl ?_
  obtain ⟨a1, rfl, ⟨hk, hf⟩ | ⟨-, hf⟩⟩ := dv_some hf
  rotate_left
  · exact fl_none hf
  refine a_callb (pc := 1) (rs := []) (avs := [vR (some a1)]) Z.1 (w_J2_toArray GA (some a1)) (Or.inl rfl) q1003 q78 (by decide) (by decide) dJ2_addAll_1 hl.1 (Nat.le_of_ble_eq_true rfl) hf (ct_F (x := ({ cls := "java/util/Collection", name := "toArray", desc := "()[Ljava/lang/Object;" } : MethodName)) hk ⟨by decide, by decide⟩ X (Or.inl rfl) q1003 q995 (gf X.1 X.2.1 q997 rfl) (gf X.1 X.2.1 q996 rfl) (gf X.1 X.2.1 q1002 rfl) (gf X.1 X.2.1 q1000 rfl) (gf X.1 X.2.1 q998 rfl) q1001 q999 ⟨by decide, by decide⟩ np_J2_toArray rfl dJ2_addAll_1) (fun q h he hX => a_out (unc_of Z.2.1 rfl) Z.2.2.2.1 he hX) (fun x1 h hf => ?kk1)
  refine AW.eq (g2 := F0 m 6 ls [va_rf x1]) rfl ?_
  refine a_astore_n (pc := 6) X dJ2_addAll_6 rfl hl (by decide) (lv' := [(2, vR x1), (0, vR v0), (1, vR (some a1))]) rfl (fun ls hl => ?_)
  refine a_aload_n (pc := 7) X dJ2_addAll_7 rfl hl 1 rfl ?_
  refine AW.lift (fun _ _ _ _ k => lv_dup (pc := 8) X.2.2.1 X.2.2.2.1 dJ2_addAll_8 (cat_rf _) k) ?_
  refine a_get (pc := 9) (φ := 2400) pI_t X Z.1.2.1 (gw X.1 X.2.1 q173) (sameF (gw (args := args) X.1 X.2.1 q172)) (by decide) dJ2_addAll_9 hf (fun x9 hf => ?_)
  refine AW.lift (fun _ _ _ _ k => lv_iconst (pc := 12) (v := (1 : Int32)) X.2.2.1 X.2.2.2.1 dJ2_addAll_12 rfl k) ?_
  refine AW.lift (fun _ _ _ _ k => lv_iadd (pc := 13) X.2.2.1 X.2.2.2.1 dJ2_addAll_13 k) ?_
  refine a_put (pc := 14) (φ := 2400) X Z.1.2.1 Z.1.2.2.1 (gw X.1 X.2.1 q173) (sameF (gw (args := args) X.1 X.2.1 q172)) (by decide) rfl rfl dJ2_addAll_14 hf (fun h hf => ?_)
  refine a_aload_n (pc := 17) X dJ2_addAll_17 rfl hl 0 rfl ?_
  refine a_arraylength (pc := 18) X dJ2_addAll_18 hf (fun x18 hf => ?_)
  refine a_istore_n (pc := 19) X dJ2_addAll_19 rfl hl (by decide) (lv' := [(3, vI x18), (2, vR x1), (0, vR v0), (1, vR (some a1))]) rfl (fun ls hl => ?_)
  refine a_iload_n (pc := 20) X dJ2_addAll_20 rfl hl 0 rfl ?_
  refine AW.lift2 (fun _ _ _ _ k1 k2 => lv_if_ne (pc := 21) (tgt := 26) X.2.2.1 X.2.2.2.1 dJ2_addAll_21 rfl k2 k1) (fun c => ?_) (fun c => ?_)
  · have hf := ite_t c hf
    refine AW.lift (fun _ _ _ _ k => lv_iconst (pc := 24) (v := (0 : Int32)) X.2.2.1 X.2.2.2.1 dJ2_addAll_24 rfl k) ?_
    exact a_zreturn X Z.2.2.1 rfl Z.2.2.2.1 dJ2_addAll_25 hf
  · have hf := ite_f c hf
    refine a_iload_n (pc := 26) X dJ2_addAll_26 rfl hl 0 rfl ?_
    refine a_aload_n (pc := 27) X dJ2_addAll_27 rfl hl 2 rfl ?_
    refine a_get (pc := 28) (φ := 2500) pR_t X Z.1.2.1 (gw X.1 X.2.1 q166) (fun _ q => q) (by decide) dJ2_addAll_28 hf (fun x28 hf => ?_)
    refine AW.lift (fun _ _ _ _ k => lv_dup (pc := 31) X.2.2.1 X.2.2.2.1 dJ2_addAll_31 (cat_rf _) k) ?_
    refine a_astore (pc := 32) X dJ2_addAll_32 hl (by decide) (lv' := [(4, vR x28), (3, vI x18), (2, vR x1), (0, vR v0), (1, vR (some a1))]) rfl (fun ls hl => ?_)
    refine a_arraylength (pc := 34) X dJ2_addAll_34 hf (fun x34 hf => ?_)
    refine a_aload_n (pc := 35) X dJ2_addAll_35 rfl hl 3 rfl ?_
    refine a_get (pc := 36) (φ := 2501) pI_t X Z.1.2.1 (gw X.1 X.2.1 q169) (fun _ q => q) (by decide) dJ2_addAll_36 hf (fun x36 hf => ?_)
    refine AW.lift (fun _ _ _ _ k => lv_dup (pc := 39) X.2.2.1 X.2.2.2.1 dJ2_addAll_39 rfl k) ?_
    refine a_istore (pc := 40) X dJ2_addAll_40 hl (by decide) (lv' := [(5, vI x36), (4, vR x28), (3, vI x18), (2, vR x1), (0, vR v0), (1, vR (some a1))]) rfl (fun ls hl => ?_)
    refine AW.lift (fun _ _ _ _ k => lv_isub (pc := 42) X.2.2.1 X.2.2.2.1 dJ2_addAll_42 k) ?_
    refine AW.lift2 (fun _ _ _ _ k1 k2 => lv_icmp_le (pc := 43) (tgt := 56) X.2.2.1 X.2.2.2.1 dJ2_addAll_43 rfl k1 k2) (fun c => ?_) (fun c => ?_)
    · have hf := ite_t c hf
      exact w_J2_addAll_j56 GA Z v0 x1 x18 x28 x36   (hl.sub [4, 3, 2, 1, 0] rfl) hf
    · have hf := ite_f c hf
      refine a_aload_n (pc := 46) X dJ2_addAll_46 rfl hl 4 rfl ?_
      refine a_iload (pc := 47) X dJ2_addAll_47 hl 0 rfl ?_
      refine a_iload_n (pc := 49) X dJ2_addAll_49 rfl hl 2 rfl ?_
      refine AW.lift (fun _ _ _ _ k => lv_iadd (pc := 50) X.2.2.1 X.2.2.2.1 dJ2_addAll_50 k) ?_
      obtain ⟨a51, rfl, ⟨hk, hf⟩ | ⟨-, hf⟩⟩ := dv_some hf
      rotate_left
      · exact fl_none hf
      refine a_callb (pc := 51) (rs := []) (avs := [vR (some a51), vI (x36 + x18)]) Z.1 (w_J2_grow_2 GA (some a51) (x36 + x18)) (Or.inl rfl) q846 q78 (by decide) (by decide) dJ2_addAll_51 hl.1 (Nat.le_of_ble_eq_true rfl) hf (ct_V hk ⟨by decide, by decide⟩ X (Or.inl rfl) q846 q843 q845 pv_3 hy_J2_grow_2 np_J2_grow_2 rfl dJ2_addAll_51) (fun q h he hX => a_out (unc_of Z.2.1 rfl) Z.2.2.2.1 he hX) (fun x51 h hf => ?kk51)
      refine AW.eq (g2 := F0 m 54 ls [va_rf x51]) rfl ?_
      refine a_astore (pc := 54) X dJ2_addAll_54 hl (by decide) (lv' := [(4, vR x51), (5, vI x36), (3, vI x18), (2, vR x1), (0, vR (some a51)), (1, vR (some a1))]) rfl (fun ls hl => ?_)
      exact w_J2_addAll_j56 GA Z (some a51) x1 x18 x51 x36   (hl.sub [4, 3, 2, 0, 1] rfl) hf
theorem np_J4_size : npar yJ4_size.desc 0 := by unfold npar; decide +kernel
theorem hy_J4_size : yJ4_size.cls ≠ "java/lang/invoke/MethodHandle" ∧ yJ4_size.cls ≠ "java/lang/invoke/VarHandle" := by decide +kernel
theorem w_J4_size (GA : GA l s0 a0 K lam) (v0 : Option Nat) : AMet l s0 K lam yJ4_size (Cond.code yJ4_size cJ4_size (1 : Nat) (Option.some ClassFile.FieldType.int)) 0 0 [vR v0] oI (f_J4_size K v0) := by
  refine AMet.of GA.1 (plainFor_of_name (by decide +kernel)) (Nat.le_of_ble_eq_true rfl) ?_
  intro b r hf p e s m args below meth c X hr hlk hnm hnd ht ls hl
  have Z : WZ l s0 a0 K p s m c cJ4_size yJ4_size.cls 1 b { frames := 0, cells := K 0 - aX b, slots := K 1 - aW b, locals := 0 } 0 0 meth [] (some (.int)) yJ4_size := ⟨⟨X, GA.2.1, GA.2.2.1, rfl, rfl, Nat.le_refl _, Nat.le_refl _⟩, tab_nil ht, hr, hlk, hnm, hnd⟩
  unfold f_J4_size at hf
  clear hr hlk hnm hnd ht
  refine a_aload_n (pc := 0) X dJ4_size_0 rfl hl 0 rfl ?_
  refine a_get (pc := 1) (φ := 2802) pI_t X Z.1.2.1 (gw X.1 X.2.1 q202) (fun _ q => q) (by decide) dJ4_size_1 hf (fun x1 hf => ?_)
  exact a_ireturn X Z.2.2.1 Z.2.2.2.1 dJ4_size_4 hf
theorem np_J12_getExponent : npar yJ12_getExponent.desc 1 := by unfold npar; decide +kernel
theorem hy_J12_getExponent : yJ12_getExponent.cls ≠ "java/lang/invoke/MethodHandle" ∧ yJ12_getExponent.cls ≠ "java/lang/invoke/VarHandle" := by decide +kernel
theorem w_J12_getExponent (GA : GA l s0 a0 K lam) (v0 : UInt64) : AMet l s0 K lam yJ12_getExponent (Cond.code yJ12_getExponent cJ12_getExponent (2 : Nat) (Option.some ClassFile.FieldType.int)) 1 23 [vD v0] oI (f_J12_getExponent K v0) := by
  refine AMet.of GA.1 (by decide +kernel) (Nat.le_of_ble_eq_true rfl) ?_
  intro b r hf p e s m args below meth c X hr hlk hnm hnd ht ls hl
  have Z : WZ l s0 a0 K p s m c cJ12_getExponent yJ12_getExponent.cls 2 b { frames := 1, cells := K 0 - aX b, slots := K 1 - aW b, locals := 23 } 1 23 meth [] (some (.int)) yJ12_getExponent := ⟨⟨X, GA.2.1, GA.2.2.1, rfl, rfl, Nat.le_refl _, Nat.le_refl _⟩, tab_nil ht, hr, hlk, hnm, hnd⟩
  unfold f_J12_getExponent at hf
  clear hr hlk hnm hnd ht
  refine a_dload_n (pc := 0) X dJ12_getExponent_0 rfl hl 0 rfl ?_
  refine AW.lift (fun _ _ _ _ k => vn_d2l (pc := 1) X.2.2.1 X.2.2.2.1 (X.2.2.2.2.2.trans hl.1.symm) X.2.2.2.2.1 (gw X.1 X.2.1 q1132) (gw X.1 X.2.1 q1134) (gw X.1 X.2.1 q1133) (gw X.1 X.2.1 q113) (Nat.le_trans (by decide) Z.1.2.2.2.2.2.1) (cat_le (rs := []) (Nat.le_of_ble_eq_true rfl) Z.1.2.2.2.2.2.2) dJ12_getExponent_1 k) ?_
  refine AW.lift (fun _ _ _ _ k => lv_ldc2 (pc := 4) X.2.2.1 X.2.2.2.1 X.2.2.2.2.1 (gw X.1 X.2.1 q1135) dJ12_getExponent_4 k) ?_
  refine AW.lift (fun _ _ _ _ k => lv_land (pc := 7) X.2.2.1 X.2.2.2.1 dJ12_getExponent_7 k) ?_
  refine AW.lift (fun _ _ _ _ k => lv_bipush (pc := 8) (v := (52 : Int32)) X.2.2.1 X.2.2.2.1 dJ12_getExponent_8 rfl k) ?_
  refine AW.lift (fun _ _ _ _ k => lv_lshr (pc := 10) X.2.2.1 X.2.2.2.1 dJ12_getExponent_10 rfl k) ?_
  refine AW.lift (fun _ _ _ _ k => lv_ldc2 (pc := 11) X.2.2.1 X.2.2.2.1 X.2.2.2.2.1 (gw X.1 X.2.1 q1136) dJ12_getExponent_11 k) ?_
  refine AW.lift (fun _ _ _ _ k => lv_lsub (pc := 14) X.2.2.1 X.2.2.2.1 dJ12_getExponent_14 k) ?_
  refine AW.lift (fun _ _ _ _ k => lv_l2i (pc := 15) X.2.2.1 X.2.2.2.1 dJ12_getExponent_15 rfl k) ?_
  exact a_ireturn X Z.2.2.1 Z.2.2.2.1 dJ12_getExponent_16 hf
theorem w_J28_floorOrCeil_j61 {r : Except Nat (UInt64) × AH} (GA : GA l s0 a0 K lam) (Z : WZ l s0 a0 K p s m c cJ28_floorOrCeil yJ28_floorOrCeil.cls 15 b R 2 44 meth [] (some (.double)) yJ28_floorOrCeil)    {h : AH} {ls : Array Slot} (hl : LV ls 15 []) (hf : f_J28_floorOrCeil_j61 K h = some r) : AW s0 K lam p l e R s m args below meth c (AQ s0 K lam below oD b r s) b h (F0 m 61 ls []) := by
  unfold f_J28_floorOrCeil_j61 at hf
  have X := Z.1.1
  exact fl_no hf
theorem w_J28_floorOrCeil_j125 {r : Except Nat (UInt64) × AH} (GA : GA l s0 a0 K lam) (Z : WZ l s0 a0 K p s m c cJ28_floorOrCeil yJ28_floorOrCeil.cls 15 b R 2 44 meth [] (some (.double)) yJ28_floorOrCeil) (v13 : UInt64)   {h : AH} {ls : Array Slot} (hl : LV ls 15 [(13, vD v13)]) (hf : f_J28_floorOrCeil_j125 K v13 h = some r) : AW s0 K lam p l e R s m args below meth c (AQ s0 K lam below oD b r s) b h (F0 m 125 ls []) := by
  unfold f_J28_floorOrCeil_j125 at hf
  have X := Z.1.1
  refine a_dload (pc := 125) X dJ28_floorOrCeil_125 hl 0 rfl ?_
  exact a_dreturn X Z.2.2.1 Z.2.2.2.1 dJ28_floorOrCeil_127 hf
theorem w_J28_floorOrCeil_j69 {r : Except Nat (UInt64) × AH} (GA : GA l s0 a0 K lam) (Z : WZ l s0 a0 K p s m c cJ28_floorOrCeil yJ28_floorOrCeil.cls 15 b R 2 44 meth [] (some (.double)) yJ28_floorOrCeil) (v0 : UInt64) (v6 : UInt64) (v8 : Int32)   {h : AH} {ls : Array Slot} (hl : LV ls 15 [(0, vD v0), (6, vD v6), (8, vI v8)]) (hf : f_J28_floorOrCeil_j69 K v0 v6 v8 h = some r) : AW s0 K lam p l e R s m args below meth c (AQ s0 K lam below oD b r s) b h (F0 m 69 ls []) := by
  unfold f_J28_floorOrCeil_j69 at hf
  have X := Z.1.1
  refine a_dload_n (pc := 69) X dJ28_floorOrCeil_69 rfl hl 0 rfl ?_
  refine AW.lift (fun _ _ _ _ k => vn_d2l (pc := 70) X.2.2.1 X.2.2.2.1 (X.2.2.2.2.2.trans hl.1.symm) X.2.2.2.2.1 (gw X.1 X.2.1 q1139) (gw X.1 X.2.1 q1134) (gw X.1 X.2.1 q1133) (gw X.1 X.2.1 q113) (Nat.le_trans (by decide) Z.1.2.2.2.2.2.1) (cat_le (rs := []) (Nat.le_of_ble_eq_true rfl) Z.1.2.2.2.2.2.2) dJ28_floorOrCeil_70 k) ?_
  refine a_lstore (pc := 73) X dJ28_floorOrCeil_73 hl (by decide) (lv' := [(9, vJ (v0.toInt64)), (0, vD v0), (6, vD v6), (8, vI v8)]) rfl (fun ls hl => ?_)
  refine AW.lift (fun _ _ _ _ k => lv_ldc2 (pc := 75) X.2.2.1 X.2.2.2.1 X.2.2.2.2.1 (gw X.1 X.2.1 q1140) dJ28_floorOrCeil_75 k) ?_
  refine a_iload (pc := 78) X dJ28_floorOrCeil_78 hl 3 rfl ?_
  refine AW.lift (fun _ _ _ _ k => lv_lshr (pc := 80) X.2.2.1 X.2.2.2.1 dJ28_floorOrCeil_80 rfl k) ?_
  refine a_lstore (pc := 81) X dJ28_floorOrCeil_81 hl (by decide) (lv' := [(11, vJ ((4503599627370495 : Int64) >>> (v8.toInt64 &&& 63))), (9, vJ (v0.toInt64)), (0, vD v0), (6, vD v6), (8, vI v8)]) rfl (fun ls hl => ?_)
  refine a_lload (pc := 83) X dJ28_floorOrCeil_83 hl 0 rfl ?_
  refine a_lload (pc := 85) X dJ28_floorOrCeil_85 hl 1 rfl ?_
  refine AW.lift (fun _ _ _ _ k => lv_land (pc := 87) X.2.2.1 X.2.2.2.1 dJ28_floorOrCeil_87 k) ?_
  refine AW.lift (fun _ _ _ _ k => lv_lconst (pc := 88) (v := (0 : Int64)) X.2.2.1 X.2.2.2.1 dJ28_floorOrCeil_88 rfl k) ?_
  refine AW.lift (fun _ _ _ _ k => W.lcmp (pc := 89) X.2.2.1 X.2.2.2.1 dJ28_floorOrCeil_89 k) ?_
  refine AW.lift2 (fun _ _ _ _ k1 k2 => lv_if_ne (pc := 90) (tgt := 95) X.2.2.1 X.2.2.2.1 dJ28_floorOrCeil_90 rfl k2 k1) (fun c => ?_) (fun c => ?_)
  · have hf := ite_t c hf
    refine a_dload_n (pc := 93) X dJ28_floorOrCeil_93 rfl hl 2 rfl ?_
    exact a_dreturn X Z.2.2.1 Z.2.2.2.1 dJ28_floorOrCeil_94 hf
  · have hf := ite_f c hf
    refine a_lload (pc := 95) X dJ28_floorOrCeil_95 hl 1 rfl ?_
    refine a_lload (pc := 97) X dJ28_floorOrCeil_97 hl 0 rfl ?_
    refine AW.lift (fun _ _ _ _ k => lv_ldc2 (pc := 99) X.2.2.1 X.2.2.2.1 X.2.2.2.2.1 (gw X.1 X.2.1 q1141) dJ28_floorOrCeil_99 k) ?_
    refine AW.lift (fun _ _ _ _ k => lv_lxor (pc := 102) X.2.2.1 X.2.2.2.1 dJ28_floorOrCeil_102 k) ?_
    refine AW.lift (fun _ _ _ _ k => lv_land (pc := 103) X.2.2.1 X.2.2.2.1 dJ28_floorOrCeil_103 k) ?_
    obtain ⟨hg, hf⟩ := chk_some hf
    refine AW.lift (fun _ _ _ _ k => vn_l2d (pc := 104) X.2.2.1 X.2.2.2.1 (X.2.2.2.2.2.trans hl.1.symm) X.2.2.2.2.1 (gw X.1 X.2.1 q1142) (gw X.1 X.2.1 q1144) (gw X.1 X.2.1 q1143) (gw X.1 X.2.1 q113) (by simpa using hg) (Nat.le_trans (by decide) Z.1.2.2.2.2.2.1) (cat_le (rs := []) (Nat.le_of_ble_eq_true rfl) Z.1.2.2.2.2.2.2) dJ28_floorOrCeil_104 k) ?_
    refine a_dstore (pc := 107) X dJ28_floorOrCeil_107 hl (by decide) (lv' := [(13, vD (((v0.toInt64) &&& (((4503599627370495 : Int64) >>> (v8.toInt64 &&& 63)) ^^^ (-1 : Int64))).toUInt64)), (11, vJ ((4503599627370495 : Int64) >>> (v8.toInt64 &&& 63))), (9, vJ (v0.toInt64)), (0, vD v0), (6, vD v6), (8, vI v8)]) rfl (fun ls hl => ?_)
    refine a_dload (pc := 109) X dJ28_floorOrCeil_109 hl 4 rfl ?_
    refine a_dload_n (pc := 111) X dJ28_floorOrCeil_111 rfl hl 3 rfl ?_
    obtain ⟨hg, hf⟩ := chk_some hf
    refine AW.lift (fun _ _ _ _ k => lv_dmul (pc := 112) X.2.2.1 X.2.2.2.1 dJ28_floorOrCeil_112 (n64 hg) k) ?_
    refine AW.lift (fun _ _ _ _ k => lv_dconst0 (pc := 113) X.2.2.1 X.2.2.2.1 dJ28_floorOrCeil_113 k) ?_
    refine AW.lift (fun _ _ _ _ k => lv_dcmp (pc := 114) X.2.2.1 X.2.2.2.1 dJ28_floorOrCeil_114 k) ?_
    refine AW.lift2 (fun _ _ _ _ k1 k2 => lv_if_le (pc := 115) (tgt := 125) X.2.2.1 X.2.2.2.1 dJ28_floorOrCeil_115 rfl k1 k2) (fun c => ?_) (fun c => ?_)
    · have hf := ite_t c hf
      exact w_J28_floorOrCeil_j125 GA Z (((v0.toInt64) &&& (((4503599627370495 : Int64) >>> (v8.toInt64 &&& 63)) ^^^ (-1 : Int64))).toUInt64)   (hl.sub [0] rfl) hf
    · have hf := ite_f c hf
      refine a_dload (pc := 118) X dJ28_floorOrCeil_118 hl 0 rfl ?_
      refine a_dload (pc := 120) X dJ28_floorOrCeil_120 hl 4 rfl ?_
      obtain ⟨hg, hf⟩ := chk_some hf
      refine AW.lift (fun _ _ _ _ k => lv_dadd (pc := 122) X.2.2.1 X.2.2.2.1 dJ28_floorOrCeil_122 (n64 hg) k) ?_
      refine a_dstore (pc := 123) X dJ28_floorOrCeil_123 hl (by decide) (lv' := [(13, vD (FP.dadd (((v0.toInt64) &&& (((4503599627370495 : Int64) >>> (v8.toInt64 &&& 63)) ^^^ (-1 : Int64))).toUInt64) v6)), (11, vJ ((4503599627370495 : Int64) >>> (v8.toInt64 &&& 63))), (9, vJ (v0.toInt64)), (0, vD v0), (6, vD v6), (8, vI v8)]) rfl (fun ls hl => ?_)
      exact w_J28_floorOrCeil_j125 GA Z (FP.dadd (((v0.toInt64) &&& (((4503599627370495 : Int64) >>> (v8.toInt64 &&& 63)) ^^^ (-1 : Int64))).toUInt64) v6)   (hl.sub [0] rfl) hf
theorem w_J28_floorOrCeil_j33 {r : Except Nat (UInt64) × AH} (GA : GA l s0 a0 K lam) (Z : WZ l s0 a0 K p s m c cJ28_floorOrCeil yJ28_floorOrCeil.cls 15 b R 2 44 meth [] (some (.double)) yJ28_floorOrCeil)  (t0 : UInt64)  {h : AH} {ls : Array Slot} (hl : LV ls 15 []) (hf : f_J28_floorOrCeil_j33 K t0 h = some r) : AW s0 K lam p l e R s m args below meth c (AQ s0 K lam below oD b r s) b h (F0 m 33 ls [.double t0]) := by
  unfold f_J28_floorOrCeil_j33 at hf
  have X := Z.1.1
  exact a_dreturn X Z.2.2.1 Z.2.2.2.1 dJ28_floorOrCeil_33 hf
theorem np_J28_floorOrCeil : npar yJ28_floorOrCeil.desc 4 := by unfold npar; decide +kernel
theorem hy_J28_floorOrCeil : yJ28_floorOrCeil.cls ≠ "java/lang/invoke/MethodHandle" ∧ yJ28_floorOrCeil.cls ≠ "java/lang/invoke/VarHandle" := by decide +kernel
theorem w_J28_floorOrCeil (GA : GA l s0 a0 K lam) (v0 : UInt64) (v2 : UInt64) (v4 : UInt64) (v6 : UInt64) : AMet l s0 K lam yJ28_floorOrCeil (Cond.code yJ28_floorOrCeil cJ28_floorOrCeil (15 : Nat) (Option.some ClassFile.FieldType.double)) 2 44 [vD v0, vD v2, vD v4, vD v6] oD (f_J28_floorOrCeil K v0 v2 v4 v6) := by
  refine AMet.of GA.1 (plainFor_of_name (by decide +kernel)) (Nat.le_of_ble_eq_true rfl) ?_
  intro b r hf p e s m args below meth c X hr hlk hnm hnd ht ls hl
  have Z : WZ l s0 a0 K p s m c cJ28_floorOrCeil yJ28_floorOrCeil.cls 15 b { frames := 2, cells := K 0 - aX b, slots := K 1 - aW b, locals := 44 } 2 44 meth [] (some (.double)) yJ28_floorOrCeil := ⟨⟨X, GA.2.1, GA.2.2.1, rfl, rfl, Nat.le_refl _, Nat.le_refl _⟩, tab_nil ht, hr, hlk, hnm, hnd⟩
  unfold f_J28_floorOrCeil at hf
  clear hr hlk hnm hnd ht
  refine a_dload_n (pc := 0) X dJ28_floorOrCeil_0 rfl hl 0 rfl ?_
  refine a_callb (pc := 1) (rs := []) (avs := [vD v0]) Z.1 (w_J12_getExponent GA v0) (Or.inl rfl) q1131 q93 (by decide) (by decide) dJ28_floorOrCeil_1 hl.1 (Nat.le_of_ble_eq_true rfl) hf (ct_S X (Or.inl rfl) q1131 q93 q1129 q1130 hy_J12_getExponent np_J12_getExponent rfl dJ28_floorOrCeil_1) (fun q h he hX => a_out (unc_of Z.2.1 rfl) Z.2.2.2.1 he hX) (fun x1 h hf => ?kk1)
  refine AW.eq (g2 := F0 m 4 ls [.int x1]) rfl ?_
  refine a_istore (pc := 4) X dJ28_floorOrCeil_4 hl (by decide) (lv' := [(8, vI x1), (0, vD v0), (2, vD v2), (4, vD v4), (6, vD v6)]) rfl (fun ls hl => ?_)
  refine a_iload (pc := 6) X dJ28_floorOrCeil_6 hl 0 rfl ?_
  refine AW.lift2 (fun _ _ _ _ k1 k2 => lv_if_ge (pc := 8) (tgt := 34) X.2.2.1 X.2.2.2.1 dJ28_floorOrCeil_8 rfl k1 k2) (fun c => ?_) (fun c => ?_)
  · have hf := ite_t c hf
    refine a_iload (pc := 34) X dJ28_floorOrCeil_34 hl 0 rfl ?_
    refine AW.lift (fun _ _ _ _ k => lv_bipush (pc := 36) (v := (52 : Int32)) X.2.2.1 X.2.2.2.1 dJ28_floorOrCeil_36 rfl k) ?_
    refine AW.lift2 (fun _ _ _ _ k1 k2 => lv_icmp_lt (pc := 38) (tgt := 43) X.2.2.1 X.2.2.2.1 dJ28_floorOrCeil_38 rfl k1 k2) (fun c => ?_) (fun c => ?_)
    · have hf := ite_t c hf
      refine a_getstatic (pc := 43) (v := .int (1 : Int32)) X (st_java_lang_StrictMath GA) (gw X.1 X.2.1 q1137) (fun _ q => q) dJ28_floorOrCeil_43 ?_
      refine AW.lift2 (fun _ _ _ _ k1 k2 => lv_if_ne (pc := 46) (tgt := 69) X.2.2.1 X.2.2.2.1 dJ28_floorOrCeil_46 rfl k2 k1) (fun c => ?_) (fun c => ?_)
      · have hf := ite_t c hf
        refine a_iload (pc := 49) X dJ28_floorOrCeil_49 hl 0 rfl ?_
        refine AW.lift2 (fun _ _ _ _ k1 k2 => lv_if_lt (pc := 51) (tgt := 61) X.2.2.1 X.2.2.2.1 dJ28_floorOrCeil_51 rfl k1 k2) (fun c => ?_) (fun c => ?_)
        · have hf := ite_t c hf
          exact w_J28_floorOrCeil_j61 GA Z    (hl.sub [] rfl) hf
        · have hf := ite_f c hf
          refine a_iload (pc := 54) X dJ28_floorOrCeil_54 hl 0 rfl ?_
          refine AW.lift (fun _ _ _ _ k => lv_bipush (pc := 56) (v := (51 : Int32)) X.2.2.1 X.2.2.2.1 dJ28_floorOrCeil_56 rfl k) ?_
          refine AW.lift2 (fun _ _ _ _ k1 k2 => lv_icmp_le (pc := 58) (tgt := 69) X.2.2.1 X.2.2.2.1 dJ28_floorOrCeil_58 rfl k1 k2) (fun c => ?_) (fun c => ?_)
          · have hf := ite_t c hf
            exact w_J28_floorOrCeil_j69 GA Z v0 v6 x1   (hl.sub [1, 4, 0] rfl) hf
          · have hf := ite_f c hf
            exact w_J28_floorOrCeil_j61 GA Z    (hl.sub [] rfl) hf
      · have hf := ite_f c hf
        exact w_J28_floorOrCeil_j69 GA Z v0 v6 x1   (hl.sub [1, 4, 0] rfl) hf
    · have hf := ite_f c hf
      refine a_dload_n (pc := 41) X dJ28_floorOrCeil_41 rfl hl 1 rfl ?_
      exact a_dreturn X Z.2.2.1 Z.2.2.2.1 dJ28_floorOrCeil_42 hf
  · have hf := ite_f c hf
    refine a_dload_n (pc := 11) X dJ28_floorOrCeil_11 rfl hl 1 rfl ?_
    refine AW.lift (fun _ _ _ _ k => lv_dconst0 (pc := 12) X.2.2.1 X.2.2.2.1 dJ28_floorOrCeil_12 k) ?_
    refine AW.lift (fun _ _ _ _ k => lv_dcmp (pc := 13) X.2.2.1 X.2.2.2.1 dJ28_floorOrCeil_13 k) ?_
    refine AW.lift2 (fun _ _ _ _ k1 k2 => lv_if_ne (pc := 14) (tgt := 21) X.2.2.1 X.2.2.2.1 dJ28_floorOrCeil_14 rfl k2 k1) (fun c => ?_) (fun c => ?_)
    · have hf := ite_t c hf
      refine a_dload_n (pc := 17) X dJ28_floorOrCeil_17 rfl hl 1 rfl ?_
      refine AW.lift (fun _ _ _ _ k => lv_goto (pc := 18) (tgt := 33) X.2.2.1 X.2.2.2.1 dJ28_floorOrCeil_18 rfl k) ?_
      exact w_J28_floorOrCeil_j33 GA Z  v0  (hl.sub [] rfl) hf
    · have hf := ite_f c hf
      refine a_dload_n (pc := 21) X dJ28_floorOrCeil_21 rfl hl 1 rfl ?_
      refine AW.lift (fun _ _ _ _ k => lv_dconst0 (pc := 22) X.2.2.1 X.2.2.2.1 dJ28_floorOrCeil_22 k) ?_
      refine AW.lift (fun _ _ _ _ k => lv_dcmp (pc := 23) X.2.2.1 X.2.2.2.1 dJ28_floorOrCeil_23 k) ?_
      refine AW.lift2 (fun _ _ _ _ k1 k2 => lv_if_ge (pc := 24) (tgt := 31) X.2.2.1 X.2.2.2.1 dJ28_floorOrCeil_24 rfl k1 k2) (fun c => ?_) (fun c => ?_)
      · have hf := ite_t c hf
        refine a_dload (pc := 31) X dJ28_floorOrCeil_31 hl 3 rfl ?_
        exact w_J28_floorOrCeil_j33 GA Z  v4  (hl.sub [] rfl) hf
      · have hf := ite_f c hf
        refine a_dload_n (pc := 27) X dJ28_floorOrCeil_27 rfl hl 2 rfl ?_
        refine AW.lift (fun _ _ _ _ k => lv_goto (pc := 28) (tgt := 33) X.2.2.1 X.2.2.2.1 dJ28_floorOrCeil_28 rfl k) ?_
        exact w_J28_floorOrCeil_j33 GA Z  v2  (hl.sub [] rfl) hf
theorem np_J28_ceil : npar yJ28_ceil.desc 1 := by unfold npar; decide +kernel
theorem hy_J28_ceil : yJ28_ceil.cls ≠ "java/lang/invoke/MethodHandle" ∧ yJ28_ceil.cls ≠ "java/lang/invoke/VarHandle" := by decide +kernel
theorem w_J28_ceil (GA : GA l s0 a0 K lam) (v0 : UInt64) : AMet l s0 K lam yJ28_ceil (Cond.code yJ28_ceil cJ28_ceil (2 : Nat) (Option.some ClassFile.FieldType.double)) 3 78 [vD v0] oD (f_J28_ceil K v0) := by
  refine AMet.of GA.1 (plainFor_of_name (by decide +kernel)) (Nat.le_of_ble_eq_true rfl) ?_
  intro b r hf p e s m args below meth c X hr hlk hnm hnd ht ls hl
  have Z : WZ l s0 a0 K p s m c cJ28_ceil yJ28_ceil.cls 2 b { frames := 3, cells := K 0 - aX b, slots := K 1 - aW b, locals := 78 } 3 78 meth [] (some (.double)) yJ28_ceil := ⟨⟨X, GA.2.1, GA.2.2.1, rfl, rfl, Nat.le_refl _, Nat.le_refl _⟩, tab_nil ht, hr, hlk, hnm, hnd⟩
  unfold f_J28_ceil at hf
  clear hr hlk hnm hnd ht
  refine a_dload_n (pc := 0) X dJ28_ceil_0 rfl hl 0 rfl ?_
  refine AW.lift (fun _ _ _ _ k => lv_ldc2d (pc := 1) X.2.2.1 X.2.2.2.1 X.2.2.2.2.1 (gw X.1 X.2.1 q1125) dJ28_ceil_1 k) ?_
  refine AW.lift (fun _ _ _ _ k => lv_dconst1 (pc := 4) X.2.2.1 X.2.2.2.1 dJ28_ceil_4 k) ?_
  refine AW.lift (fun _ _ _ _ k => lv_dconst1 (pc := 5) X.2.2.1 X.2.2.2.1 dJ28_ceil_5 k) ?_
  refine a_callb (pc := 6) (rs := []) (avs := [vD v0, vD (9223372036854775808 : UInt64), vD FP.dconst1, vD FP.dconst1]) Z.1 (w_J28_floorOrCeil GA v0 (9223372036854775808 : UInt64) FP.dconst1 FP.dconst1) (Or.inl rfl) q1128 q112 (by decide) (by decide) dJ28_ceil_6 hl.1 (Nat.le_of_ble_eq_true rfl) hf (ct_S X (Or.inl rfl) q1128 q112 q1126 q1127 hy_J28_floorOrCeil np_J28_floorOrCeil rfl dJ28_ceil_6) (fun q h he hX => a_out (unc_of Z.2.1 rfl) Z.2.2.2.1 he hX) (fun x6 h hf => ?kk6)
  refine AW.eq (g2 := F0 m 9 ls [.double x6]) rfl ?_
  exact a_dreturn X Z.2.2.1 Z.2.2.2.1 dJ28_ceil_9 hf
theorem w_J23_numberOfLeadingZeros_j73 {r : Except Nat (Int32) × AH} (GA : GA l s0 a0 K lam) (Z : WZ l s0 a0 K p s m c cJ23_numberOfLeadingZeros yJ23_numberOfLeadingZeros.cls 2 b R 0 0 meth [] (some (.int)) yJ23_numberOfLeadingZeros) (v0 : Int32) (v1 : Int32)   {h : AH} {ls : Array Slot} (hl : LV ls 2 [(0, vI v0), (1, vI v1)]) (hf : f_J23_numberOfLeadingZeros_j73 K v0 v1 h = some r) : AW s0 K lam p l e R s m args below meth c (AQ s0 K lam below oI b r s) b h (F0 m 73 ls []) := by
  unfold f_J23_numberOfLeadingZeros_j73 at hf
  have X := Z.1.1
  refine a_iload_n (pc := 73) X dJ23_numberOfLeadingZeros_73 rfl hl 1 rfl ?_
  refine a_iload_n (pc := 74) X dJ23_numberOfLeadingZeros_74 rfl hl 0 rfl ?_
  refine AW.lift (fun _ _ _ _ k => lv_iconst (pc := 75) (v := (1 : Int32)) X.2.2.1 X.2.2.2.1 dJ23_numberOfLeadingZeros_75 rfl k) ?_
  refine AW.lift (fun _ _ _ _ k => lv_iushr (pc := 76) X.2.2.1 X.2.2.2.1 dJ23_numberOfLeadingZeros_76 rfl k) ?_
  refine AW.lift (fun _ _ _ _ k => lv_isub (pc := 77) X.2.2.1 X.2.2.2.1 dJ23_numberOfLeadingZeros_77 k) ?_
  exact a_ireturn X Z.2.2.1 Z.2.2.2.1 dJ23_numberOfLeadingZeros_78 hf
theorem w_J23_numberOfLeadingZeros_j61 {r : Except Nat (Int32) × AH} (GA : GA l s0 a0 K lam) (Z : WZ l s0 a0 K p s m c cJ23_numberOfLeadingZeros yJ23_numberOfLeadingZeros.cls 2 b R 0 0 meth [] (some (.int)) yJ23_numberOfLeadingZeros) (v0 : Int32) (v1 : Int32)   {h : AH} {ls : Array Slot} (hl : LV ls 2 [(0, vI v0), (1, vI v1)]) (hf : f_J23_numberOfLeadingZeros_j61 K v0 v1 h = some r) : AW s0 K lam p l e R s m args below meth c (AQ s0 K lam below oI b r s) b h (F0 m 61 ls []) := by
  unfold f_J23_numberOfLeadingZeros_j61 at hf
  have X := Z.1.1
  refine a_iload_n (pc := 61) X dJ23_numberOfLeadingZeros_61 rfl hl 0 rfl ?_
  refine AW.lift (fun _ _ _ _ k => lv_iconst (pc := 62) (v := (4 : Int32)) X.2.2.1 X.2.2.2.1 dJ23_numberOfLeadingZeros_62 rfl k) ?_
  refine AW.lift2 (fun _ _ _ _ k1 k2 => lv_icmp_lt (pc := 63) (tgt := 73) X.2.2.1 X.2.2.2.1 dJ23_numberOfLeadingZeros_63 rfl k1 k2) (fun c => ?_) (fun c => ?_)
  · have hf := ite_t c hf
    exact w_J23_numberOfLeadingZeros_j73 GA Z v0 v1   (hl.sub [0, 1] rfl) hf
  · have hf := ite_f c hf
    refine a_iinc (pc := 66) (v := (v1 + (-2 : Int32))) X dJ23_numberOfLeadingZeros_66 hl (k := 1) rfl rfl (by decide) (lv' := [(1, vI (v1 + (-2 : Int32))), (0, vI v0)]) rfl (fun ls hl => ?_)
    refine a_iload_n (pc := 69) X dJ23_numberOfLeadingZeros_69 rfl hl 1 rfl ?_
    refine AW.lift (fun _ _ _ _ k => lv_iconst (pc := 70) (v := (2 : Int32)) X.2.2.1 X.2.2.2.1 dJ23_numberOfLeadingZeros_70 rfl k) ?_
    refine AW.lift (fun _ _ _ _ k => lv_iushr (pc := 71) X.2.2.1 X.2.2.2.1 dJ23_numberOfLeadingZeros_71 rfl k) ?_
    refine a_istore_n (pc := 72) X dJ23_numberOfLeadingZeros_72 rfl hl (by decide) (lv' := [(0, vI (v0.toUInt32 >>> ((2 : Int32).toUInt32 &&& Int32.toUInt32 31)).toInt32), (1, vI (v1 + (-2 : Int32)))]) rfl (fun ls hl => ?_)
    exact w_J23_numberOfLeadingZeros_j73 GA Z (v0.toUInt32 >>> ((2 : Int32).toUInt32 &&& Int32.toUInt32 31)).toInt32 (v1 + (-2 : Int32))   (hl.sub [0, 1] rfl) hf
theorem w_J23_numberOfLeadingZeros_j48 {r : Except Nat (Int32) × AH} (GA : GA l s0 a0 K lam) (Z : WZ l s0 a0 K p s m c cJ23_numberOfLeadingZeros yJ23_numberOfLeadingZeros.cls 2 b R 0 0 meth [] (some (.int)) yJ23_numberOfLeadingZeros) (v0 : Int32) (v1 : Int32)   {h : AH} {ls : Array Slot} (hl : LV ls 2 [(0, vI v0), (1, vI v1)]) (hf : f_J23_numberOfLeadingZeros_j48 K v0 v1 h = some r) : AW s0 K lam p l e R s m args below meth c (AQ s0 K lam below oI b r s) b h (F0 m 48 ls []) := by
  unfold f_J23_numberOfLeadingZeros_j48 at hf
  have X := Z.1.1
  refine a_iload_n (pc := 48) X dJ23_numberOfLeadingZeros_48 rfl hl 0 rfl ?_
  refine AW.lift (fun _ _ _ _ k => lv_bipush (pc := 49) (v := (16 : Int32)) X.2.2.1 X.2.2.2.1 dJ23_numberOfLeadingZeros_49 rfl k) ?_
  refine AW.lift2 (fun _ _ _ _ k1 k2 => lv_icmp_lt (pc := 51) (tgt := 61) X.2.2.1 X.2.2.2.1 dJ23_numberOfLeadingZeros_51 rfl k1 k2) (fun c => ?_) (fun c => ?_)
  · have hf := ite_t c hf
    exact w_J23_numberOfLeadingZeros_j61 GA Z v0 v1   (hl.sub [0, 1] rfl) hf
  · have hf := ite_f c hf
    refine a_iinc (pc := 54) (v := (v1 + (-4 : Int32))) X dJ23_numberOfLeadingZeros_54 hl (k := 1) rfl rfl (by decide) (lv' := [(1, vI (v1 + (-4 : Int32))), (0, vI v0)]) rfl (fun ls hl => ?_)
    refine a_iload_n (pc := 57) X dJ23_numberOfLeadingZeros_57 rfl hl 1 rfl ?_
    refine AW.lift (fun _ _ _ _ k => lv_iconst (pc := 58) (v := (4 : Int32)) X.2.2.1 X.2.2.2.1 dJ23_numberOfLeadingZeros_58 rfl k) ?_
    refine AW.lift (fun _ _ _ _ k => lv_iushr (pc := 59) X.2.2.1 X.2.2.2.1 dJ23_numberOfLeadingZeros_59 rfl k) ?_
    refine a_istore_n (pc := 60) X dJ23_numberOfLeadingZeros_60 rfl hl (by decide) (lv' := [(0, vI (v0.toUInt32 >>> ((4 : Int32).toUInt32 &&& Int32.toUInt32 31)).toInt32), (1, vI (v1 + (-4 : Int32)))]) rfl (fun ls hl => ?_)
    exact w_J23_numberOfLeadingZeros_j61 GA Z (v0.toUInt32 >>> ((4 : Int32).toUInt32 &&& Int32.toUInt32 31)).toInt32 (v1 + (-4 : Int32))   (hl.sub [0, 1] rfl) hf
theorem w_J23_numberOfLeadingZeros_j33 {r : Except Nat (Int32) × AH} (GA : GA l s0 a0 K lam) (Z : WZ l s0 a0 K p s m c cJ23_numberOfLeadingZeros yJ23_numberOfLeadingZeros.cls 2 b R 0 0 meth [] (some (.int)) yJ23_numberOfLeadingZeros) (v0 : Int32) (v1 : Int32)   {h : AH} {ls : Array Slot} (hl : LV ls 2 [(0, vI v0), (1, vI v1)]) (hf : f_J23_numberOfLeadingZeros_j33 K v0 v1 h = some r) : AW s0 K lam p l e R s m args below meth c (AQ s0 K lam below oI b r s) b h (F0 m 33 ls []) := by
  unfold f_J23_numberOfLeadingZeros_j33 at hf
  have X := Z.1.1
  refine a_iload_n (pc := 33) X dJ23_numberOfLeadingZeros_33 rfl hl 0 rfl ?_
  refine AW.lift (fun _ _ _ _ k => lv_sipush (pc := 34) (v := (256 : Int32)) X.2.2.1 X.2.2.2.1 dJ23_numberOfLeadingZeros_34 rfl k) ?_
  refine AW.lift2 (fun _ _ _ _ k1 k2 => lv_icmp_lt (pc := 37) (tgt := 48) X.2.2.1 X.2.2.2.1 dJ23_numberOfLeadingZeros_37 rfl k1 k2) (fun c => ?_) (fun c => ?_)
  · have hf := ite_t c hf
    exact w_J23_numberOfLeadingZeros_j48 GA Z v0 v1   (hl.sub [0, 1] rfl) hf
  · have hf := ite_f c hf
    refine a_iinc (pc := 40) (v := (v1 + (-8 : Int32))) X dJ23_numberOfLeadingZeros_40 hl (k := 1) rfl rfl (by decide) (lv' := [(1, vI (v1 + (-8 : Int32))), (0, vI v0)]) rfl (fun ls hl => ?_)
    refine a_iload_n (pc := 43) X dJ23_numberOfLeadingZeros_43 rfl hl 1 rfl ?_
    refine AW.lift (fun _ _ _ _ k => lv_bipush (pc := 44) (v := (8 : Int32)) X.2.2.1 X.2.2.2.1 dJ23_numberOfLeadingZeros_44 rfl k) ?_
    refine AW.lift (fun _ _ _ _ k => lv_iushr (pc := 46) X.2.2.1 X.2.2.2.1 dJ23_numberOfLeadingZeros_46 rfl k) ?_
    refine a_istore_n (pc := 47) X dJ23_numberOfLeadingZeros_47 rfl hl (by decide) (lv' := [(0, vI (v0.toUInt32 >>> ((8 : Int32).toUInt32 &&& Int32.toUInt32 31)).toInt32), (1, vI (v1 + (-8 : Int32)))]) rfl (fun ls hl => ?_)
    exact w_J23_numberOfLeadingZeros_j48 GA Z (v0.toUInt32 >>> ((8 : Int32).toUInt32 &&& Int32.toUInt32 31)).toInt32 (v1 + (-8 : Int32))   (hl.sub [0, 1] rfl) hf
theorem np_J23_numberOfLeadingZeros : npar yJ23_numberOfLeadingZeros.desc 1 := by unfold npar; decide +kernel
theorem hy_J23_numberOfLeadingZeros : yJ23_numberOfLeadingZeros.cls ≠ "java/lang/invoke/MethodHandle" ∧ yJ23_numberOfLeadingZeros.cls ≠ "java/lang/invoke/VarHandle" := by decide +kernel
theorem w_J23_numberOfLeadingZeros (GA : GA l s0 a0 K lam) (v0 : Int32) : AMet l s0 K lam yJ23_numberOfLeadingZeros (Cond.code yJ23_numberOfLeadingZeros cJ23_numberOfLeadingZeros (2 : Nat) (Option.some ClassFile.FieldType.int)) 0 0 [vI v0] oI (f_J23_numberOfLeadingZeros K v0) := by
  refine AMet.of GA.1 (plainFor_of_name (by decide +kernel)) (Nat.le_of_ble_eq_true rfl) ?_
  intro b r hf p e s m args below meth c X hr hlk hnm hnd ht ls hl
  have Z : WZ l s0 a0 K p s m c cJ23_numberOfLeadingZeros yJ23_numberOfLeadingZeros.cls 2 b { frames := 0, cells := K 0 - aX b, slots := K 1 - aW b, locals := 0 } 0 0 meth [] (some (.int)) yJ23_numberOfLeadingZeros := ⟨⟨X, GA.2.1, GA.2.2.1, rfl, rfl, Nat.le_refl _, Nat.le_refl _⟩, tab_nil ht, hr, hlk, hnm, hnd⟩
  unfold f_J23_numberOfLeadingZeros at hf
  clear hr hlk hnm hnd ht
  refine a_iload_n (pc := 0) X dJ23_numberOfLeadingZeros_0 rfl hl 0 rfl ?_
  refine AW.lift2 (fun _ _ _ _ k1 k2 => lv_if_gt (pc := 1) (tgt := 15) X.2.2.1 X.2.2.2.1 dJ23_numberOfLeadingZeros_1 rfl k1 k2) (fun c => ?_) (fun c => ?_)
  · have hf := ite_t c hf
    refine AW.lift (fun _ _ _ _ k => lv_bipush (pc := 15) (v := (31 : Int32)) X.2.2.1 X.2.2.2.1 dJ23_numberOfLeadingZeros_15 rfl k) ?_
    refine a_istore_n (pc := 17) X dJ23_numberOfLeadingZeros_17 rfl hl (by decide) (lv' := [(1, vI (31 : Int32)), (0, vI v0)]) rfl (fun ls hl => ?_)
    refine a_iload_n (pc := 18) X dJ23_numberOfLeadingZeros_18 rfl hl 1 rfl ?_
    refine AW.lift (fun _ _ _ _ k => lv_ldcw (pc := 19) X.2.2.1 X.2.2.2.1 X.2.2.2.2.1 (gw X.1 X.2.1 q1153) dJ23_numberOfLeadingZeros_19 k) ?_
    refine AW.lift2 (fun _ _ _ _ k1 k2 => lv_icmp_lt (pc := 22) (tgt := 33) X.2.2.1 X.2.2.2.1 dJ23_numberOfLeadingZeros_22 rfl k1 k2) (fun c => ?_) (fun c => ?_)
    · have hf := ite_t c hf
      exact w_J23_numberOfLeadingZeros_j33 GA Z v0 (31 : Int32)   (hl.sub [1, 0] rfl) hf
    · have hf := ite_f c hf
      refine a_iinc (pc := 25) (v := ((31 : Int32) + (-16 : Int32))) X dJ23_numberOfLeadingZeros_25 hl (k := 0) rfl rfl (by decide) (lv' := [(1, vI ((31 : Int32) + (-16 : Int32))), (0, vI v0)]) rfl (fun ls hl => ?_)
      refine a_iload_n (pc := 28) X dJ23_numberOfLeadingZeros_28 rfl hl 1 rfl ?_
      refine AW.lift (fun _ _ _ _ k => lv_bipush (pc := 29) (v := (16 : Int32)) X.2.2.1 X.2.2.2.1 dJ23_numberOfLeadingZeros_29 rfl k) ?_
      refine AW.lift (fun _ _ _ _ k => lv_iushr (pc := 31) X.2.2.1 X.2.2.2.1 dJ23_numberOfLeadingZeros_31 rfl k) ?_
      refine a_istore_n (pc := 32) X dJ23_numberOfLeadingZeros_32 rfl hl (by decide) (lv' := [(0, vI (v0.toUInt32 >>> ((16 : Int32).toUInt32 &&& Int32.toUInt32 31)).toInt32), (1, vI ((31 : Int32) + (-16 : Int32)))]) rfl (fun ls hl => ?_)
      exact w_J23_numberOfLeadingZeros_j33 GA Z (v0.toUInt32 >>> ((16 : Int32).toUInt32 &&& Int32.toUInt32 31)).toInt32 ((31 : Int32) + (-16 : Int32))   (hl.sub [0, 1] rfl) hf
  · have hf := ite_f c hf
    refine a_iload_n (pc := 4) X dJ23_numberOfLeadingZeros_4 rfl hl 0 rfl ?_
    refine AW.lift2 (fun _ _ _ _ k1 k2 => lv_if_ne (pc := 5) (tgt := 13) X.2.2.1 X.2.2.2.1 dJ23_numberOfLeadingZeros_5 rfl k2 k1) (fun c => ?_) (fun c => ?_)
    · have hf := ite_t c hf
      refine AW.lift (fun _ _ _ _ k => lv_bipush (pc := 8) (v := (32 : Int32)) X.2.2.1 X.2.2.2.1 dJ23_numberOfLeadingZeros_8 rfl k) ?_
      refine AW.lift (fun _ _ _ _ k => lv_goto (pc := 10) (tgt := 14) X.2.2.1 X.2.2.2.1 dJ23_numberOfLeadingZeros_10 rfl k) ?_
      exact a_ireturn X Z.2.2.1 Z.2.2.2.1 dJ23_numberOfLeadingZeros_14 hf
    · have hf := ite_f c hf
      refine AW.lift (fun _ _ _ _ k => lv_iconst (pc := 13) (v := (0 : Int32)) X.2.2.1 X.2.2.2.1 dJ23_numberOfLeadingZeros_13 rfl k) ?_
      exact a_ireturn X Z.2.2.1 Z.2.2.2.1 dJ23_numberOfLeadingZeros_14 hf
theorem np_J4_tableSizeFor : npar yJ4_tableSizeFor.desc 1 := by unfold npar; decide +kernel
theorem hy_J4_tableSizeFor : yJ4_tableSizeFor.cls ≠ "java/lang/invoke/MethodHandle" ∧ yJ4_tableSizeFor.cls ≠ "java/lang/invoke/VarHandle" := by decide +kernel
theorem w_J4_tableSizeFor (GA : GA l s0 a0 K lam) (v0 : Int32) : AMet l s0 K lam yJ4_tableSizeFor (Cond.code yJ4_tableSizeFor cJ4_tableSizeFor (2 : Nat) (Option.some ClassFile.FieldType.int)) 1 21 [vI v0] oI (f_J4_tableSizeFor K v0) := by
  refine AMet.of GA.1 (plainFor_of_name (by decide +kernel)) (Nat.le_of_ble_eq_true rfl) ?_
  intro b r hf p e s m args below meth c X hr hlk hnm hnd ht ls hl
  have Z : WZ l s0 a0 K p s m c cJ4_tableSizeFor yJ4_tableSizeFor.cls 2 b { frames := 1, cells := K 0 - aX b, slots := K 1 - aW b, locals := 21 } 1 21 meth [] (some (.int)) yJ4_tableSizeFor := ⟨⟨X, GA.2.1, GA.2.2.1, rfl, rfl, Nat.le_refl _, Nat.le_refl _⟩, tab_nil ht, hr, hlk, hnm, hnd⟩
  unfold f_J4_tableSizeFor at hf
  clear hr hlk hnm hnd ht
  refine AW.lift (fun _ _ _ _ k => lv_iconst (pc := 0) (v := (-1 : Int32)) X.2.2.1 X.2.2.2.1 dJ4_tableSizeFor_0 rfl k) ?_
  refine a_iload_n (pc := 1) X dJ4_tableSizeFor_1 rfl hl 0 rfl ?_
  refine AW.lift (fun _ _ _ _ k => lv_iconst (pc := 2) (v := (1 : Int32)) X.2.2.1 X.2.2.2.1 dJ4_tableSizeFor_2 rfl k) ?_
  refine AW.lift (fun _ _ _ _ k => lv_isub (pc := 3) X.2.2.1 X.2.2.2.1 dJ4_tableSizeFor_3 k) ?_
  refine a_callb (pc := 4) (rs := [vI (-1 : Int32)]) (avs := [vI (v0 - (1 : Int32))]) Z.1 (w_J23_numberOfLeadingZeros GA (v0 - (1 : Int32))) (Or.inl rfl) q1152 q105 (by decide) (by decide) dJ4_tableSizeFor_4 hl.1 (Nat.le_of_ble_eq_true rfl) hf (ct_S X (Or.inl rfl) q1152 q105 q1150 q1151 hy_J23_numberOfLeadingZeros np_J23_numberOfLeadingZeros rfl dJ4_tableSizeFor_4) (fun q h he hX => a_out (unc_of Z.2.1 rfl) Z.2.2.2.1 he hX) (fun x4 h hf => ?kk4)
  refine AW.eq (g2 := F0 m 7 ls [.int x4, .int (-1 : Int32)]) rfl ?_
  refine AW.lift (fun _ _ _ _ k => lv_iushr (pc := 7) X.2.2.1 X.2.2.2.1 dJ4_tableSizeFor_7 rfl k) ?_
  refine a_istore_n (pc := 8) X dJ4_tableSizeFor_8 rfl hl (by decide) (lv' := [(1, vI ((-1 : Int32).toUInt32 >>> (x4.toUInt32 &&& Int32.toUInt32 31)).toInt32), (0, vI v0)]) rfl (fun ls hl => ?_)
  refine a_iload_n (pc := 9) X dJ4_tableSizeFor_9 rfl hl 0 rfl ?_
  refine AW.lift2 (fun _ _ _ _ k1 k2 => lv_if_ge (pc := 10) (tgt := 17) X.2.2.1 X.2.2.2.1 dJ4_tableSizeFor_10 rfl k1 k2) (fun c => ?_) (fun c => ?_)
  · have hf := ite_t c hf
    refine a_iload_n (pc := 17) X dJ4_tableSizeFor_17 rfl hl 0 rfl ?_
    refine AW.lift (fun _ _ _ _ k => lv_ldc (pc := 18) X.2.2.1 X.2.2.2.1 X.2.2.2.2.1 (gw X.1 X.2.1 q1146) dJ4_tableSizeFor_18 k) ?_
    refine AW.lift2 (fun _ _ _ _ k1 k2 => lv_icmp_lt (pc := 20) (tgt := 28) X.2.2.1 X.2.2.2.1 dJ4_tableSizeFor_20 rfl k1 k2) (fun c => ?_) (fun c => ?_)
    · have hf := ite_t c hf
      refine a_iload_n (pc := 28) X dJ4_tableSizeFor_28 rfl hl 0 rfl ?_
      refine AW.lift (fun _ _ _ _ k => lv_iconst (pc := 29) (v := (1 : Int32)) X.2.2.1 X.2.2.2.1 dJ4_tableSizeFor_29 rfl k) ?_
      refine AW.lift (fun _ _ _ _ k => lv_iadd (pc := 30) X.2.2.1 X.2.2.2.1 dJ4_tableSizeFor_30 k) ?_
      exact a_ireturn X Z.2.2.1 Z.2.2.2.1 dJ4_tableSizeFor_31 hf
    · have hf := ite_f c hf
      refine AW.lift (fun _ _ _ _ k => lv_ldc (pc := 23) X.2.2.1 X.2.2.2.1 X.2.2.2.2.1 (gw X.1 X.2.1 q1146) dJ4_tableSizeFor_23 k) ?_
      refine AW.lift (fun _ _ _ _ k => lv_goto (pc := 25) (tgt := 31) X.2.2.1 X.2.2.2.1 dJ4_tableSizeFor_25 rfl k) ?_
      exact a_ireturn X Z.2.2.1 Z.2.2.2.1 dJ4_tableSizeFor_31 hf
  · have hf := ite_f c hf
    refine AW.lift (fun _ _ _ _ k => lv_iconst (pc := 13) (v := (1 : Int32)) X.2.2.1 X.2.2.2.1 dJ4_tableSizeFor_13 rfl k) ?_
    refine AW.lift (fun _ _ _ _ k => lv_goto (pc := 14) (tgt := 31) X.2.2.1 X.2.2.2.1 dJ4_tableSizeFor_14 rfl k) ?_
    exact a_ireturn X Z.2.2.1 Z.2.2.2.1 dJ4_tableSizeFor_31 hf
theorem w_J4_resize_j347 {r : Except Nat (Option Nat) × AH} (GA : GA l s0 a0 K lam) (Z : WZ l s0 a0 K p s m c cJ4_resize yJ4_resize.cls 14 b R 0 0 meth [] (some (.array (.object "java/util/HashMap$Node"))) yJ4_resize) (v0 : Option Nat) (v1 : Option Nat) (v2 : Int32) (v4 : Int32) (v6 : Option Nat) (v7 : Int32)  (rc151 : Int32 → AM (Option Nat)) (hrc151 : ∀ (v7 : Int32) (h : AH) (ls : Array Slot), LV ls 14 [(0, vR v0), (1, vR v1), (2, vI v2), (4, vI v4), (6, vR v6), (7, vI v7)] → rc151 v7 h = some r → AW s0 K lam p l e R s m args below meth c (AQ s0 K lam below oR b r s) b h (F0 m 151 ls [])) {h : AH} {ls : Array Slot} (hl : LV ls 14 [(0, vR v0), (1, vR v1), (2, vI v2), (4, vI v4), (6, vR v6), (7, vI v7)]) (hf : f_J4_resize_j347 K rc151 v0 v1 v2 v4 v6 v7 h = some r) : AW s0 K lam p l e R s m args below meth c (AQ s0 K lam below oR b r s) b h (F0 m 347 ls []) := by
  unfold f_J4_resize_j347 at hf
  have X := Z.1.1
  refine a_iinc (pc := 347) (v := (v7 + (1 : Int32))) X dJ4_resize_347 hl (k := 5) rfl rfl (by decide) (lv' := [(7, vI (v7 + (1 : Int32))), (0, vR v0), (1, vR v1), (2, vI v2), (4, vI v4), (6, vR v6)]) rfl (fun ls hl => ?_)
  refine AW.lift (fun _ _ _ _ k => lv_goto (pc := 350) (tgt := 151) X.2.2.1 X.2.2.2.1 dJ4_resize_350 rfl k) ?_
  exact hrc151 (v7 + (1 : Int32)) _ _ (hl.sub [1, 2, 3, 4, 5, 0] rfl) hf
theorem w_J4_resize_j327 {r : Except Nat (Option Nat) × AH} (GA : GA l s0 a0 K lam) (Z : WZ l s0 a0 K p s m c cJ4_resize yJ4_resize.cls 14 b R 0 0 meth [] (some (.array (.object "java/util/HashMap$Node"))) yJ4_resize) (v0 : Option Nat) (v1 : Option Nat) (v2 : Int32) (v4 : Int32) (v6 : Option Nat) (v7 : Int32) (v11 : Option Nat) (v12 : Option Nat)  (rc151 : Int32 → AM (Option Nat)) (hrc151 : ∀ (v7 : Int32) (h : AH) (ls : Array Slot), LV ls 14 [(0, vR v0), (1, vR v1), (2, vI v2), (4, vI v4), (6, vR v6), (7, vI v7)] → rc151 v7 h = some r → AW s0 K lam p l e R s m args below meth c (AQ s0 K lam below oR b r s) b h (F0 m 151 ls [])) {h : AH} {ls : Array Slot} (hl : LV ls 14 [(0, vR v0), (1, vR v1), (2, vI v2), (4, vI v4), (6, vR v6), (7, vI v7), (11, vR v11), (12, vR v12)]) (hf : f_J4_resize_j327 K rc151 v0 v1 v2 v4 v6 v7 v11 v12 h = some r) : AW s0 K lam p l e R s m args below meth c (AQ s0 K lam below oR b r s) b h (F0 m 327 ls []) := by
  unfold f_J4_resize_j327 at hf
  have X := Z.1.1
  refine a_aload (pc := 327) X dJ4_resize_327 hl 7 rfl ?_
  refine a_ifnull (pc := 329) (tgt := 347) X dJ4_resize_329 rfl (fun c => ?_) (fun c => ?_)
  · have hf := ite_t c hf
    exact w_J4_resize_j347 GA Z v0 v1 v2 v4 v6 v7  rc151 hrc151 (hl.sub [0, 1, 2, 3, 4, 5] rfl) hf
  · have hf := ite_f c hf
    refine a_aload (pc := 332) X dJ4_resize_332 hl 7 rfl ?_
    refine a_null (pc := 334) X dJ4_resize_334 ?_
    refine a_put (pc := 335) (φ := 2903) X Z.1.2.1 Z.1.2.2.1 (gw X.1 X.2.1 q1196) (fun _ q => q) (by decide) rfl (fits_rf _ (Or.inl ⟨_, rfl⟩)) dJ4_resize_335 hf (fun h hf => ?_)
    refine a_aload (pc := 338) X dJ4_resize_338 hl 4 rfl ?_
    refine a_iload (pc := 340) X dJ4_resize_340 hl 5 rfl ?_
    refine a_iload_n (pc := 342) X dJ4_resize_342 rfl hl 2 rfl ?_
    refine AW.lift (fun _ _ _ _ k => lv_iadd (pc := 343) X.2.2.1 X.2.2.2.1 dJ4_resize_343 k) ?_
    refine a_aload (pc := 344) X dJ4_resize_344 hl 6 rfl ?_
    refine a_aastore (pc := 346) (t := 1007) (C := "java/util/HashMap$Node") (by decide) rfl X (cs_java_util_HashMap_Node GA) dJ4_resize_346 hf (fun h hf => ?_)
    exact w_J4_resize_j347 GA Z v0 v1 v2 v4 v6 v7  rc151 hrc151 (hl.sub [0, 1, 2, 3, 4, 5] rfl) hf
theorem w_J4_resize_j309 {r : Except Nat (Option Nat) × AH} (GA : GA l s0 a0 K lam) (Z : WZ l s0 a0 K p s m c cJ4_resize yJ4_resize.cls 14 b R 0 0 meth [] (some (.array (.object "java/util/HashMap$Node"))) yJ4_resize) (v0 : Option Nat) (v1 : Option Nat) (v2 : Int32) (v4 : Int32) (v6 : Option Nat) (v7 : Int32) (v9 : Option Nat) (v10 : Option Nat) (v11 : Option Nat) (v12 : Option Nat)  (rc151 : Int32 → AM (Option Nat)) (hrc151 : ∀ (v7 : Int32) (h : AH) (ls : Array Slot), LV ls 14 [(0, vR v0), (1, vR v1), (2, vI v2), (4, vI v4), (6, vR v6), (7, vI v7)] → rc151 v7 h = some r → AW s0 K lam p l e R s m args below meth c (AQ s0 K lam below oR b r s) b h (F0 m 151 ls [])) {h : AH} {ls : Array Slot} (hl : LV ls 14 [(0, vR v0), (1, vR v1), (2, vI v2), (4, vI v4), (6, vR v6), (7, vI v7), (9, vR v9), (10, vR v10), (11, vR v11), (12, vR v12)]) (hf : f_J4_resize_j309 K rc151 v0 v1 v2 v4 v6 v7 v9 v10 v11 v12 h = some r) : AW s0 K lam p l e R s m args below meth c (AQ s0 K lam below oR b r s) b h (F0 m 309 ls []) := by
  unfold f_J4_resize_j309 at hf
  have X := Z.1.1
  refine a_aload (pc := 309) X dJ4_resize_309 hl 7 rfl ?_
  refine a_ifnull (pc := 311) (tgt := 327) X dJ4_resize_311 rfl (fun c => ?_) (fun c => ?_)
  · have hf := ite_t c hf
    exact w_J4_resize_j327 GA Z v0 v1 v2 v4 v6 v7 v11 v12  rc151 hrc151 (hl.sub [0, 1, 2, 3, 4, 5, 8, 9] rfl) hf
  · have hf := ite_f c hf
    refine a_aload (pc := 314) X dJ4_resize_314 hl 7 rfl ?_
    refine a_null (pc := 316) X dJ4_resize_316 ?_
    refine a_put (pc := 317) (φ := 2903) X Z.1.2.1 Z.1.2.2.1 (gw X.1 X.2.1 q1196) (fun _ q => q) (by decide) rfl (fits_rf _ (Or.inl ⟨_, rfl⟩)) dJ4_resize_317 hf (fun h hf => ?_)
    refine a_aload (pc := 320) X dJ4_resize_320 hl 4 rfl ?_
    refine a_iload (pc := 322) X dJ4_resize_322 hl 5 rfl ?_
    refine a_aload (pc := 324) X dJ4_resize_324 hl 6 rfl ?_
    refine a_aastore (pc := 326) (t := 1007) (C := "java/util/HashMap$Node") (by decide) rfl X (cs_java_util_HashMap_Node GA) dJ4_resize_326 hf (fun h hf => ?_)
    exact w_J4_resize_j327 GA Z v0 v1 v2 v4 v6 v7 v11 v12  rc151 hrc151 (hl.sub [0, 1, 2, 3, 4, 5, 8, 9] rfl) hf
theorem w_J4_resize_j301 {r : Except Nat (Option Nat) × AH} (GA : GA l s0 a0 K lam) (Z : WZ l s0 a0 K p s m c cJ4_resize yJ4_resize.cls 14 b R 0 0 meth [] (some (.array (.object "java/util/HashMap$Node"))) yJ4_resize) (v0 : Option Nat) (v1 : Option Nat) (v2 : Int32) (v4 : Int32) (v6 : Option Nat) (v7 : Int32) (v9 : Option Nat) (v10 : Option Nat) (v11 : Option Nat) (v12 : Option Nat) (v13 : Option Nat)  (rc151 : Int32 → AM (Option Nat)) (hrc151 : ∀ (v7 : Int32) (h : AH) (ls : Array Slot), LV ls 14 [(0, vR v0), (1, vR v1), (2, vI v2), (4, vI v4), (6, vR v6), (7, vI v7)] → rc151 v7 h = some r → AW s0 K lam p l e R s m args below meth c (AQ s0 K lam below oR b r s) b h (F0 m 151 ls [])) (rc235 : Option Nat → Option Nat → Option Nat → Option Nat → Option Nat → AM (Option Nat)) (hrc235 : ∀ (v8 : Option Nat) (v9 : Option Nat) (v10 : Option Nat) (v11 : Option Nat) (v12 : Option Nat) (h : AH) (ls : Array Slot), LV ls 14 [(0, vR v0), (1, vR v1), (2, vI v2), (4, vI v4), (6, vR v6), (7, vI v7), (8, vR v8), (9, vR v9), (10, vR v10), (11, vR v11), (12, vR v12)] → rc235 v8 v9 v10 v11 v12 h = some r → AW s0 K lam p l e R s m args below meth c (AQ s0 K lam below oR b r s) b h (F0 m 235 ls [])) {h : AH} {ls : Array Slot} (hl : LV ls 14 [(0, vR v0), (1, vR v1), (2, vI v2), (4, vI v4), (6, vR v6), (7, vI v7), (9, vR v9), (10, vR v10), (11, vR v11), (12, vR v12), (13, vR v13)]) (hf : f_J4_resize_j301 K rc151 rc235 v0 v1 v2 v4 v6 v7 v9 v10 v11 v12 v13 h = some r) : AW s0 K lam p l e R s m args below meth c (AQ s0 K lam below oR b r s) b h (F0 m 301 ls []) := by
  unfold f_J4_resize_j301 at hf
  have X := Z.1.1
  refine a_aload (pc := 301) X dJ4_resize_301 hl 10 rfl ?_
  refine AW.lift (fun _ _ _ _ k => lv_dup (pc := 303) X.2.2.1 X.2.2.2.1 dJ4_resize_303 (cat_rf _) k) ?_
  refine a_astore (pc := 304) X dJ4_resize_304 hl (by decide) (lv' := [(8, vR v13), (0, vR v0), (1, vR v1), (2, vI v2), (4, vI v4), (6, vR v6), (7, vI v7), (9, vR v9), (10, vR v10), (11, vR v11), (12, vR v12), (13, vR v13)]) rfl (fun ls hl => ?_)
  refine a_ifnonnull (pc := 306) (tgt := 235) X dJ4_resize_306 rfl (fun c => ?_) (fun c => ?_)
  · have hf := ite_f c hf
    exact hrc235 v13 v9 v10 v11 v12 _ _ (hl.sub [1, 2, 3, 4, 5, 6, 0, 7, 8, 9, 10] rfl) hf
  · have hf := ite_t c hf
    exact w_J4_resize_j309 GA Z v0 v1 v2 v4 v6 v7 v9 v10 v11 v12  rc151 hrc151 (hl.sub [1, 2, 3, 4, 5, 6, 7, 8, 9, 10] rfl) hf
theorem w_J4_resize_j271 {r : Except Nat (Option Nat) × AH} (GA : GA l s0 a0 K lam) (Z : WZ l s0 a0 K p s m c cJ4_resize yJ4_resize.cls 14 b R 0 0 meth [] (some (.array (.object "java/util/HashMap$Node"))) yJ4_resize) (v0 : Option Nat) (v1 : Option Nat) (v2 : Int32) (v4 : Int32) (v6 : Option Nat) (v7 : Int32) (v8 : Option Nat) (v9 : Option Nat) (v11 : Option Nat) (v12 : Option Nat) (v13 : Option Nat)  (rc151 : Int32 → AM (Option Nat)) (hrc151 : ∀ (v7 : Int32) (h : AH) (ls : Array Slot), LV ls 14 [(0, vR v0), (1, vR v1), (2, vI v2), (4, vI v4), (6, vR v6), (7, vI v7)] → rc151 v7 h = some r → AW s0 K lam p l e R s m args below meth c (AQ s0 K lam below oR b r s) b h (F0 m 151 ls [])) (rc235 : Option Nat → Option Nat → Option Nat → Option Nat → Option Nat → AM (Option Nat)) (hrc235 : ∀ (v8 : Option Nat) (v9 : Option Nat) (v10 : Option Nat) (v11 : Option Nat) (v12 : Option Nat) (h : AH) (ls : Array Slot), LV ls 14 [(0, vR v0), (1, vR v1), (2, vI v2), (4, vI v4), (6, vR v6), (7, vI v7), (8, vR v8), (9, vR v9), (10, vR v10), (11, vR v11), (12, vR v12)] → rc235 v8 v9 v10 v11 v12 h = some r → AW s0 K lam p l e R s m args below meth c (AQ s0 K lam below oR b r s) b h (F0 m 235 ls [])) {h : AH} {ls : Array Slot} (hl : LV ls 14 [(0, vR v0), (1, vR v1), (2, vI v2), (4, vI v4), (6, vR v6), (7, vI v7), (8, vR v8), (9, vR v9), (11, vR v11), (12, vR v12), (13, vR v13)]) (hf : f_J4_resize_j271 K rc151 rc235 v0 v1 v2 v4 v6 v7 v8 v9 v11 v12 v13 h = some r) : AW s0 K lam p l e R s m args below meth c (AQ s0 K lam below oR b r s) b h (F0 m 271 ls []) := by
  unfold f_J4_resize_j271 at hf
  have X := Z.1.1
  refine a_aload (pc := 271) X dJ4_resize_271 hl 6 rfl ?_
  refine a_astore (pc := 273) X dJ4_resize_273 hl (by decide) (lv' := [(10, vR v8), (0, vR v0), (1, vR v1), (2, vI v2), (4, vI v4), (6, vR v6), (7, vI v7), (8, vR v8), (9, vR v9), (11, vR v11), (12, vR v12), (13, vR v13)]) rfl (fun ls hl => ?_)
  refine AW.lift (fun _ _ _ _ k => lv_goto (pc := 275) (tgt := 301) X.2.2.1 X.2.2.2.1 dJ4_resize_275 rfl k) ?_
  exact w_J4_resize_j301 GA Z v0 v1 v2 v4 v6 v7 v9 v8 v11 v12 v13  rc151 hrc151 rc235 hrc235 (hl.sub [1, 2, 3, 4, 5, 6, 8, 0, 9, 10, 11] rfl) hf
theorem w_J4_resize_j297 {r : Except Nat (Option Nat) × AH} (GA : GA l s0 a0 K lam) (Z : WZ l s0 a0 K p s m c cJ4_resize yJ4_resize.cls 14 b R 0 0 meth [] (some (.array (.object "java/util/HashMap$Node"))) yJ4_resize) (v0 : Option Nat) (v1 : Option Nat) (v2 : Int32) (v4 : Int32) (v6 : Option Nat) (v7 : Int32) (v8 : Option Nat) (v9 : Option Nat) (v10 : Option Nat) (v11 : Option Nat) (v13 : Option Nat)  (rc151 : Int32 → AM (Option Nat)) (hrc151 : ∀ (v7 : Int32) (h : AH) (ls : Array Slot), LV ls 14 [(0, vR v0), (1, vR v1), (2, vI v2), (4, vI v4), (6, vR v6), (7, vI v7)] → rc151 v7 h = some r → AW s0 K lam p l e R s m args below meth c (AQ s0 K lam below oR b r s) b h (F0 m 151 ls [])) (rc235 : Option Nat → Option Nat → Option Nat → Option Nat → Option Nat → AM (Option Nat)) (hrc235 : ∀ (v8 : Option Nat) (v9 : Option Nat) (v10 : Option Nat) (v11 : Option Nat) (v12 : Option Nat) (h : AH) (ls : Array Slot), LV ls 14 [(0, vR v0), (1, vR v1), (2, vI v2), (4, vI v4), (6, vR v6), (7, vI v7), (8, vR v8), (9, vR v9), (10, vR v10), (11, vR v11), (12, vR v12)] → rc235 v8 v9 v10 v11 v12 h = some r → AW s0 K lam p l e R s m args below meth c (AQ s0 K lam below oR b r s) b h (F0 m 235 ls [])) {h : AH} {ls : Array Slot} (hl : LV ls 14 [(0, vR v0), (1, vR v1), (2, vI v2), (4, vI v4), (6, vR v6), (7, vI v7), (8, vR v8), (9, vR v9), (10, vR v10), (11, vR v11), (13, vR v13)]) (hf : f_J4_resize_j297 K rc151 rc235 v0 v1 v2 v4 v6 v7 v8 v9 v10 v11 v13 h = some r) : AW s0 K lam p l e R s m args below meth c (AQ s0 K lam below oR b r s) b h (F0 m 297 ls []) := by
  unfold f_J4_resize_j297 at hf
  have X := Z.1.1
  refine a_aload (pc := 297) X dJ4_resize_297 hl 6 rfl ?_
  refine a_astore (pc := 299) X dJ4_resize_299 hl (by decide) (lv' := [(12, vR v8), (0, vR v0), (1, vR v1), (2, vI v2), (4, vI v4), (6, vR v6), (7, vI v7), (8, vR v8), (9, vR v9), (10, vR v10), (11, vR v11), (13, vR v13)]) rfl (fun ls hl => ?_)
  exact w_J4_resize_j301 GA Z v0 v1 v2 v4 v6 v7 v9 v10 v11 v8 v13  rc151 hrc151 rc235 hrc235 (hl.sub [1, 2, 3, 4, 5, 6, 8, 9, 10, 0, 11] rfl) hf
theorem w_J4_resize_b235 {r : Except Nat (Option Nat) × AH} (GA : GA l s0 a0 K lam) (Z : WZ l s0 a0 K p s m c cJ4_resize yJ4_resize.cls 14 b R 0 0 meth [] (some (.array (.object "java/util/HashMap$Node"))) yJ4_resize) (v0 : Option Nat) (v1 : Option Nat) (v2 : Int32) (v4 : Int32) (v6 : Option Nat) (v7 : Int32) (v8 : Option Nat) (v9 : Option Nat) (v10 : Option Nat) (v11 : Option Nat) (v12 : Option Nat)  (rc151 : Int32 → AM (Option Nat)) (hrc151 : ∀ (v7 : Int32) (h : AH) (ls : Array Slot), LV ls 14 [(0, vR v0), (1, vR v1), (2, vI v2), (4, vI v4), (6, vR v6), (7, vI v7)] → rc151 v7 h = some r → AW s0 K lam p l e R s m args below meth c (AQ s0 K lam below oR b r s) b h (F0 m 151 ls [])) (rc235 : Option Nat → Option Nat → Option Nat → Option Nat → Option Nat → AM (Option Nat)) (hrc235 : ∀ (v8 : Option Nat) (v9 : Option Nat) (v10 : Option Nat) (v11 : Option Nat) (v12 : Option Nat) (h : AH) (ls : Array Slot), LV ls 14 [(0, vR v0), (1, vR v1), (2, vI v2), (4, vI v4), (6, vR v6), (7, vI v7), (8, vR v8), (9, vR v9), (10, vR v10), (11, vR v11), (12, vR v12)] → rc235 v8 v9 v10 v11 v12 h = some r → AW s0 K lam p l e R s m args below meth c (AQ s0 K lam below oR b r s) b h (F0 m 235 ls [])) {h : AH} {ls : Array Slot} (hl : LV ls 14 [(0, vR v0), (1, vR v1), (2, vI v2), (4, vI v4), (6, vR v6), (7, vI v7), (8, vR v8), (9, vR v9), (10, vR v10), (11, vR v11), (12, vR v12)]) (hf : f_J4_resize_b235 K rc151 rc235 v0 v1 v2 v4 v6 v7 v8 v9 v10 v11 v12 h = some r) : AW s0 K lam p l e R s m args below meth c (AQ s0 K lam below oR b r s) b h (F0 m 235 ls []) := by
  unfold f_J4_resize_b235 at hf
  have X := Z.1.1
  refine a_aload (pc := 235) X dJ4_resize_235 hl 6 rfl ?_
  refine a_get (pc := 237) (φ := 2903) pR_t X Z.1.2.1 (gw X.1 X.2.1 q1196) (fun _ q => q) (by decide) dJ4_resize_237 hf (fun x237 hf => ?_)
  refine a_astore (pc := 240) X dJ4_resize_240 hl (by decide) (lv' := [(13, vR x237), (0, vR v0), (1, vR v1), (2, vI v2), (4, vI v4), (6, vR v6), (7, vI v7), (8, vR v8), (9, vR v9), (10, vR v10), (11, vR v11), (12, vR v12)]) rfl (fun ls hl => ?_)
  refine a_aload (pc := 242) X dJ4_resize_242 hl 7 rfl ?_
  refine a_get (pc := 244) (φ := 2900) pI_t X Z.1.2.1 (gw X.1 X.2.1 q1184) (fun _ q => q) (by decide) dJ4_resize_244 hf (fun x244 hf => ?_)
  refine a_iload_n (pc := 247) X dJ4_resize_247 rfl hl 3 rfl ?_
  refine AW.lift (fun _ _ _ _ k => lv_iand (pc := 248) X.2.2.1 X.2.2.2.1 dJ4_resize_248 k) ?_
  refine AW.lift2 (fun _ _ _ _ k1 k2 => lv_if_ne (pc := 249) (tgt := 278) X.2.2.1 X.2.2.2.1 dJ4_resize_249 rfl k2 k1) (fun c => ?_) (fun c => ?_)
  · have hf := ite_t c hf
    refine a_aload (pc := 252) X dJ4_resize_252 hl 9 rfl ?_
    refine a_ifnonnull (pc := 254) (tgt := 264) X dJ4_resize_254 rfl (fun c => ?_) (fun c => ?_)
    · have hf := ite_f c hf
      refine a_aload (pc := 264) X dJ4_resize_264 hl 9 rfl ?_
      refine a_aload (pc := 266) X dJ4_resize_266 hl 7 rfl ?_
      refine a_put (pc := 268) (φ := 2903) X Z.1.2.1 Z.1.2.2.1 (gw X.1 X.2.1 q1196) (fun _ q => q) (by decide) rfl (fits_rf _ (Or.inl ⟨_, rfl⟩)) dJ4_resize_268 hf (fun h hf => ?_)
      exact w_J4_resize_j271 GA Z v0 v1 v2 v4 v6 v7 v8 v9 v11 v12 x237  rc151 hrc151 rc235 hrc235 (hl.sub [1, 2, 3, 4, 5, 6, 7, 8, 10, 11, 0] rfl) hf
    · have hf := ite_t c hf
      refine a_aload (pc := 257) X dJ4_resize_257 hl 7 rfl ?_
      refine a_astore (pc := 259) X dJ4_resize_259 hl (by decide) (lv' := [(9, vR v8), (13, vR x237), (0, vR v0), (1, vR v1), (2, vI v2), (4, vI v4), (6, vR v6), (7, vI v7), (8, vR v8), (10, vR v10), (11, vR v11), (12, vR v12)]) rfl (fun ls hl => ?_)
      refine AW.lift (fun _ _ _ _ k => lv_goto (pc := 261) (tgt := 271) X.2.2.1 X.2.2.2.1 dJ4_resize_261 rfl k) ?_
      exact w_J4_resize_j271 GA Z v0 v1 v2 v4 v6 v7 v8 v8 v11 v12 x237  rc151 hrc151 rc235 hrc235 (hl.sub [2, 3, 4, 5, 6, 7, 8, 0, 10, 11, 1] rfl) hf
  · have hf := ite_f c hf
    refine a_aload (pc := 278) X dJ4_resize_278 hl 11 rfl ?_
    refine a_ifnonnull (pc := 280) (tgt := 290) X dJ4_resize_280 rfl (fun c => ?_) (fun c => ?_)
    · have hf := ite_f c hf
      refine a_aload (pc := 290) X dJ4_resize_290 hl 11 rfl ?_
      refine a_aload (pc := 292) X dJ4_resize_292 hl 7 rfl ?_
      refine a_put (pc := 294) (φ := 2903) X Z.1.2.1 Z.1.2.2.1 (gw X.1 X.2.1 q1196) (fun _ q => q) (by decide) rfl (fits_rf _ (Or.inl ⟨_, rfl⟩)) dJ4_resize_294 hf (fun h hf => ?_)
      exact w_J4_resize_j297 GA Z v0 v1 v2 v4 v6 v7 v8 v9 v10 v11 x237  rc151 hrc151 rc235 hrc235 (hl.sub [1, 2, 3, 4, 5, 6, 7, 8, 9, 10, 0] rfl) hf
    · have hf := ite_t c hf
      refine a_aload (pc := 283) X dJ4_resize_283 hl 7 rfl ?_
      refine a_astore (pc := 285) X dJ4_resize_285 hl (by decide) (lv' := [(11, vR v8), (13, vR x237), (0, vR v0), (1, vR v1), (2, vI v2), (4, vI v4), (6, vR v6), (7, vI v7), (8, vR v8), (9, vR v9), (10, vR v10), (12, vR v12)]) rfl (fun ls hl => ?_)
      refine AW.lift (fun _ _ _ _ k => lv_goto (pc := 287) (tgt := 297) X.2.2.1 X.2.2.2.1 dJ4_resize_287 rfl k) ?_
      exact w_J4_resize_j297 GA Z v0 v1 v2 v4 v6 v7 v8 v9 v10 v8 x237  rc151 hrc151 rc235 hrc235 (hl.sub [2, 3, 4, 5, 6, 7, 8, 9, 10, 0, 1] rfl) hf
theorem w_J4_resize_l235 {r : Except Nat (Option Nat) × AH} (GA : GA l s0 a0 K lam) (Z : WZ l s0 a0 K p s m c cJ4_resize yJ4_resize.cls 14 b R 0 0 meth [] (some (.array (.object "java/util/HashMap$Node"))) yJ4_resize) (v0 : Option Nat) (v1 : Option Nat) (v2 : Int32) (v4 : Int32) (v6 : Option Nat) (v7 : Int32) (rc151 : Int32 → AM (Option Nat)) (hrc151 : ∀ (v7 : Int32) (h : AH) (ls : Array Slot), LV ls 14 [(0, vR v0), (1, vR v1), (2, vI v2), (4, vI v4), (6, vR v6), (7, vI v7)] → rc151 v7 h = some r → AW s0 K lam p l e R s m args below meth c (AQ s0 K lam below oR b r s) b h (F0 m 151 ls [])) : ∀ (n : Nat) (v8 : Option Nat) (v9 : Option Nat) (v10 : Option Nat) (v11 : Option Nat) (v12 : Option Nat) (h : AH) (ls : Array Slot), LV ls 14 [(0, vR v0), (1, vR v1), (2, vI v2), (4, vI v4), (6, vR v6), (7, vI v7), (8, vR v8), (9, vR v9), (10, vR v10), (11, vR v11), (12, vR v12)] → f_J4_resize_l235 K rc151 v0 v1 v2 v4 v6 v7 n v8 v9 v10 v11 v12 h = some r → AW s0 K lam p l e R s m args below meth c (AQ s0 K lam below oR b r s) b h (F0 m 235 ls []) := by
  intro n
  induction n with
  | zero => intro v8 v9 v10 v11 v12 h ls hl hf; exact fl_no (h := h) hf
  | succ n ih => intro v8 v9 v10 v11 v12 h ls hl hf; exact w_J4_resize_b235 GA Z v0 v1 v2 v4 v6 v7 v8 v9 v10 v11 v12 rc151 hrc151 (f_J4_resize_l235 K rc151 v0 v1 v2 v4 v6 v7 n) ih hl hf
theorem w_J4_resize_b151 {r : Except Nat (Option Nat) × AH} (GA : GA l s0 a0 K lam) (Z : WZ l s0 a0 K p s m c cJ4_resize yJ4_resize.cls 14 b R 0 0 meth [] (some (.array (.object "java/util/HashMap$Node"))) yJ4_resize) (v0 : Option Nat) (v1 : Option Nat) (v2 : Int32) (v4 : Int32) (v6 : Option Nat) (v7 : Int32)  (rc151 : Int32 → AM (Option Nat)) (hrc151 : ∀ (v7 : Int32) (h : AH) (ls : Array Slot), LV ls 14 [(0, vR v0), (1, vR v1), (2, vI v2), (4, vI v4), (6, vR v6), (7, vI v7)] → rc151 v7 h = some r → AW s0 K lam p l e R s m args below meth c (AQ s0 K lam below oR b r s) b h (F0 m 151 ls [])) {h : AH} {ls : Array Slot} (hl : LV ls 14 [(0, vR v0), (1, vR v1), (2, vI v2), (4, vI v4), (6, vR v6), (7, vI v7)]) (hf : f_J4_resize_b151 K rc151 v0 v1 v2 v4 v6 v7 h = some r) : AW s0 K lam p l e R s m args below meth c (AQ s0 K lam below oR b r s) b h (F0 m 151 ls []) := by
  unfold f_J4_resize_b151 at hf
  have X := Z.1.1
  refine a_iload (pc := 151) X dJ4_resize_151 hl 5 rfl ?_
  refine a_iload_n (pc := 153) X dJ4_resize_153 rfl hl 2 rfl ?_
  refine AW.lift2 (fun _ _ _ _ k1 k2 => lv_icmp_ge (pc := 154) (tgt := 353) X.2.2.1 X.2.2.2.1 dJ4_resize_154 rfl k1 k2) (fun c => ?_) (fun c => ?_)
  · have hf := ite_t c hf
    refine a_aload (pc := 353) X dJ4_resize_353 hl 4 rfl ?_
    exact a_areturn X Z.2.2.1 (Or.inr ⟨_, rfl⟩) Z.2.2.2.1 dJ4_resize_355 hf
  · have hf := ite_f c hf
    refine a_aload_n (pc := 157) X dJ4_resize_157 rfl hl 1 rfl ?_
    refine a_iload (pc := 158) X dJ4_resize_158 hl 5 rfl ?_
    refine a_aaload (pc := 160) (t := 1007) (by decide) rfl X dJ4_resize_160 hf (fun x160 hf => ?_)
    refine AW.lift (fun _ _ _ _ k => lv_dup (pc := 161) X.2.2.1 X.2.2.2.1 dJ4_resize_161 (cat_rf _) k) ?_
    refine a_astore (pc := 162) X dJ4_resize_162 hl (by decide) (lv' := [(8, vR x160), (0, vR v0), (1, vR v1), (2, vI v2), (4, vI v4), (6, vR v6), (7, vI v7)]) rfl (fun ls hl => ?_)
    refine a_ifnull (pc := 164) (tgt := 347) X dJ4_resize_164 rfl (fun c => ?_) (fun c => ?_)
    · have hf := ite_t c hf
      exact w_J4_resize_j347 GA Z v0 v1 v2 v4 v6 v7  rc151 hrc151 (hl.sub [1, 2, 3, 4, 5, 6] rfl) hf
    · have hf := ite_f c hf
      refine a_aload_n (pc := 167) X dJ4_resize_167 rfl hl 2 rfl ?_
      refine a_iload (pc := 168) X dJ4_resize_168 hl 6 rfl ?_
      refine a_null (pc := 170) X dJ4_resize_170 ?_
      refine a_aastore (pc := 171) (t := 1007) (C := "java/util/HashMap$Node") (by decide) rfl X (cs_java_util_HashMap_Node GA) dJ4_resize_171 hf (fun h hf => ?_)
      refine a_aload (pc := 172) X dJ4_resize_172 hl 0 rfl ?_
      refine a_get (pc := 174) (φ := 2903) pR_t X Z.1.2.1 (gw X.1 X.2.1 q1196) (fun _ q => q) (by decide) dJ4_resize_174 hf (fun x174 hf => ?_)
      refine a_ifnonnull (pc := 177) (tgt := 198) X dJ4_resize_177 rfl (fun c => ?_) (fun c => ?_)
      · have hf := ite_f c hf
        refine a_aload (pc := 198) X dJ4_resize_198 hl 0 rfl ?_
        refine a_instanceof (pc := 200) X (gw X.1 X.2.1 q1162) (cs_none GA) (nc_29_java_util_HashMap_TreeNode GA) dJ4_resize_200 hf (fun x200 hf => ?_)
        refine AW.lift2 (fun _ _ _ _ k1 k2 => lv_if_eq (pc := 203) (tgt := 223) X.2.2.1 X.2.2.2.1 dJ4_resize_203 rfl k1 k2) (fun c => ?_) (fun c => ?_)
        · have hf := ite_t c hf
          refine a_null (pc := 223) X dJ4_resize_223 ?_
          refine a_astore (pc := 224) X dJ4_resize_224 hl (by decide) (lv' := [(9, vR none), (8, vR x160), (0, vR v0), (1, vR v1), (2, vI v2), (4, vI v4), (6, vR v6), (7, vI v7)]) rfl (fun ls hl => ?_)
          refine a_null (pc := 226) X dJ4_resize_226 ?_
          refine a_astore (pc := 227) X dJ4_resize_227 hl (by decide) (lv' := [(10, vR none), (9, vR none), (8, vR x160), (0, vR v0), (1, vR v1), (2, vI v2), (4, vI v4), (6, vR v6), (7, vI v7)]) rfl (fun ls hl => ?_)
          refine a_null (pc := 229) X dJ4_resize_229 ?_
          refine a_astore (pc := 230) X dJ4_resize_230 hl (by decide) (lv' := [(11, vR none), (10, vR none), (9, vR none), (8, vR x160), (0, vR v0), (1, vR v1), (2, vI v2), (4, vI v4), (6, vR v6), (7, vI v7)]) rfl (fun ls hl => ?_)
          refine a_null (pc := 232) X dJ4_resize_232 ?_
          refine a_astore (pc := 233) X dJ4_resize_233 hl (by decide) (lv' := [(12, vR none), (11, vR none), (10, vR none), (9, vR none), (8, vR x160), (0, vR v0), (1, vR v1), (2, vI v2), (4, vI v4), (6, vR v6), (7, vI v7)]) rfl (fun ls hl => ?_)
          exact w_J4_resize_l235 GA Z v0 v1 v2 v4 v6 v7 rc151 hrc151 FU x160 none none none none _ _ (hl.sub [5, 6, 7, 8, 9, 10, 4, 3, 2, 1, 0] rfl) hf
        · have hf := ite_f c hf
          refine a_aload (pc := 206) X dJ4_resize_206 hl 0 rfl ?_
          refine a_checkcast (pc := 208) X (gw X.1 X.2.1 q1162) (cs_java_util_HashMap_TreeNode GA) dJ4_resize_208 hf (fun hf => ?_)
          refine a_aload_n (pc := 211) X dJ4_resize_211 rfl hl 1 rfl ?_
          refine a_aload (pc := 212) X dJ4_resize_212 hl 5 rfl ?_
          refine a_iload (pc := 214) X dJ4_resize_214 hl 6 rfl ?_
          refine a_iload_n (pc := 216) X dJ4_resize_216 rfl hl 3 rfl ?_
          exact fl_no hf
      · have hf := ite_t c hf
        refine a_aload (pc := 180) X dJ4_resize_180 hl 5 rfl ?_
        refine a_aload (pc := 182) X dJ4_resize_182 hl 0 rfl ?_
        refine a_get (pc := 184) (φ := 2900) pI_t X Z.1.2.1 (gw X.1 X.2.1 q1184) (fun _ q => q) (by decide) dJ4_resize_184 hf (fun x184 hf => ?_)
        refine a_iload (pc := 187) X dJ4_resize_187 hl 4 rfl ?_
        refine AW.lift (fun _ _ _ _ k => lv_iconst (pc := 189) (v := (1 : Int32)) X.2.2.1 X.2.2.2.1 dJ4_resize_189 rfl k) ?_
        refine AW.lift (fun _ _ _ _ k => lv_isub (pc := 190) X.2.2.1 X.2.2.2.1 dJ4_resize_190 k) ?_
        refine AW.lift (fun _ _ _ _ k => lv_iand (pc := 191) X.2.2.1 X.2.2.2.1 dJ4_resize_191 k) ?_
        refine a_aload (pc := 192) X dJ4_resize_192 hl 0 rfl ?_
        refine a_aastore (pc := 194) (t := 1007) (C := "java/util/HashMap$Node") (by decide) rfl X (cs_java_util_HashMap_Node GA) dJ4_resize_194 hf (fun h hf => ?_)
        refine AW.lift (fun _ _ _ _ k => lv_goto (pc := 195) (tgt := 347) X.2.2.1 X.2.2.2.1 dJ4_resize_195 rfl k) ?_
        exact w_J4_resize_j347 GA Z v0 v1 v2 v4 v6 v7  rc151 hrc151 (hl.sub [1, 2, 3, 4, 5, 6] rfl) hf
theorem w_J4_resize_l151 {r : Except Nat (Option Nat) × AH} (GA : GA l s0 a0 K lam) (Z : WZ l s0 a0 K p s m c cJ4_resize yJ4_resize.cls 14 b R 0 0 meth [] (some (.array (.object "java/util/HashMap$Node"))) yJ4_resize) (v0 : Option Nat) (v1 : Option Nat) (v2 : Int32) (v4 : Int32) (v6 : Option Nat)  : ∀ (n : Nat) (v7 : Int32) (h : AH) (ls : Array Slot), LV ls 14 [(0, vR v0), (1, vR v1), (2, vI v2), (4, vI v4), (6, vR v6), (7, vI v7)] → f_J4_resize_l151 K v0 v1 v2 v4 v6 n v7 h = some r → AW s0 K lam p l e R s m args below meth c (AQ s0 K lam below oR b r s) b h (F0 m 151 ls []) := by
  intro n
  induction n with
  | zero => intro v7 h ls hl hf; exact fl_no (h := h) hf
  | succ n ih => intro v7 h ls hl hf; exact w_J4_resize_b151 GA Z v0 v1 v2 v4 v6 v7 (f_J4_resize_l151 K v0 v1 v2 v4 v6 n) ih hl hf
theorem w_J4_resize_j125 {r : Except Nat (Option Nat) × AH} (GA : GA l s0 a0 K lam) (Z : WZ l s0 a0 K p s m c cJ4_resize yJ4_resize.cls 14 b R 0 0 meth [] (some (.array (.object "java/util/HashMap$Node"))) yJ4_resize) (v0 : Option Nat) (v1 : Option Nat) (v2 : Int32) (v4 : Int32) (v5 : Int32)   {h : AH} {ls : Array Slot} (hl : LV ls 14 [(0, vR v0), (1, vR v1), (2, vI v2), (4, vI v4), (5, vI v5)]) (hf : f_J4_resize_j125 K v0 v1 v2 v4 v5 h = some r) : AW s0 K lam p l e R s m args below meth c (AQ s0 K lam below oR b r s) b h (F0 m 125 ls []) := by
  unfold f_J4_resize_j125 at hf
  have X := Z.1.1
  refine a_aload_n (pc := 125) X dJ4_resize_125 rfl hl 0 rfl ?_
  refine a_iload (pc := 126) X dJ4_resize_126 hl 4 rfl ?_
  refine a_put (pc := 128) (φ := 2804) X Z.1.2.1 Z.1.2.2.1 (gw X.1 X.2.1 q205) (fun _ q => q) (by decide) rfl rfl dJ4_resize_128 hf (fun h hf => ?_)
  refine a_iload (pc := 131) X dJ4_resize_131 hl 3 rfl ?_
  refine a_anewarray (pc := 133) (t := 1007) (C := "java/util/HashMap$Node") (by decide) rfl X Z.1.2.2.2.1 Z.1.2.2.2.2.1 (gw X.1 X.2.1 q1160) (ao_1007 GA) dJ4_resize_133 hf (fun x133 h hf => ?_)
  refine a_astore (pc := 136) X dJ4_resize_136 hl (by decide) (lv' := [(6, vR (some x133)), (0, vR v0), (1, vR v1), (2, vI v2), (4, vI v4), (5, vI v5)]) rfl (fun ls hl => ?_)
  refine a_aload_n (pc := 138) X dJ4_resize_138 rfl hl 1 rfl ?_
  refine a_aload (pc := 139) X dJ4_resize_139 hl 0 rfl ?_
  refine a_put (pc := 141) (φ := 2800) X Z.1.2.1 Z.1.2.2.1 (gw X.1 X.2.1 q198) (fun _ q => q) (by decide) rfl (fits_rf _ (Or.inr ⟨_, rfl⟩)) dJ4_resize_141 hf (fun h hf => ?_)
  refine a_aload_n (pc := 144) X dJ4_resize_144 rfl hl 2 rfl ?_
  refine a_ifnull (pc := 145) (tgt := 353) X dJ4_resize_145 rfl (fun c => ?_) (fun c => ?_)
  · have hf := ite_t c hf
    refine a_aload (pc := 353) X dJ4_resize_353 hl 0 rfl ?_
    exact a_areturn X Z.2.2.1 (Or.inr ⟨_, rfl⟩) Z.2.2.2.1 dJ4_resize_355 hf
  · have hf := ite_f c hf
    refine AW.lift (fun _ _ _ _ k => lv_iconst (pc := 148) (v := (0 : Int32)) X.2.2.1 X.2.2.2.1 dJ4_resize_148 rfl k) ?_
    refine a_istore (pc := 149) X dJ4_resize_149 hl (by decide) (lv' := [(7, vI (0 : Int32)), (6, vR (some x133)), (0, vR v0), (1, vR v1), (2, vI v2), (4, vI v4), (5, vI v5)]) rfl (fun ls hl => ?_)
    exact w_J4_resize_l151 GA Z v0 v1 v2 v4 (some x133)  FU (0 : Int32) _ _ (hl.sub [2, 3, 4, 5, 1, 0] rfl) hf
theorem w_J4_resize_j123 {r : Except Nat (Option Nat) × AH} (GA : GA l s0 a0 K lam) (Z : WZ l s0 a0 K p s m c cJ4_resize yJ4_resize.cls 14 b R 0 0 meth [] (some (.array (.object "java/util/HashMap$Node"))) yJ4_resize) (v0 : Option Nat) (v1 : Option Nat) (v2 : Int32) (v4 : Int32) (t0 : Int32)  {h : AH} {ls : Array Slot} (hl : LV ls 14 [(0, vR v0), (1, vR v1), (2, vI v2), (4, vI v4)]) (hf : f_J4_resize_j123 K v0 v1 v2 v4 t0 h = some r) : AW s0 K lam p l e R s m args below meth c (AQ s0 K lam below oR b r s) b h (F0 m 123 ls [.int t0]) := by
  unfold f_J4_resize_j123 at hf
  have X := Z.1.1
  refine a_istore (pc := 123) X dJ4_resize_123 hl (by decide) (lv' := [(5, vI t0), (0, vR v0), (1, vR v1), (2, vI v2), (4, vI v4)]) rfl (fun ls hl => ?_)
  exact w_J4_resize_j125 GA Z v0 v1 v2 v4 t0   (hl.sub [1, 2, 3, 4, 0] rfl) hf
theorem w_J4_resize_j121 {r : Except Nat (Option Nat) × AH} (GA : GA l s0 a0 K lam) (Z : WZ l s0 a0 K p s m c cJ4_resize yJ4_resize.cls 14 b R 0 0 meth [] (some (.array (.object "java/util/HashMap$Node"))) yJ4_resize) (v0 : Option Nat) (v1 : Option Nat) (v2 : Int32) (v4 : Int32)   {h : AH} {ls : Array Slot} (hl : LV ls 14 [(0, vR v0), (1, vR v1), (2, vI v2), (4, vI v4)]) (hf : f_J4_resize_j121 K v0 v1 v2 v4 h = some r) : AW s0 K lam p l e R s m args below meth c (AQ s0 K lam below oR b r s) b h (F0 m 121 ls []) := by
  unfold f_J4_resize_j121 at hf
  have X := Z.1.1
  refine AW.lift (fun _ _ _ _ k => lv_ldc (pc := 121) X.2.2.1 X.2.2.2.1 X.2.2.2.2.1 (gw X.1 X.2.1 q1158) dJ4_resize_121 k) ?_
  exact w_J4_resize_j123 GA Z v0 v1 v2 v4 (2147483647 : Int32)  (hl.sub [0, 1, 2, 3] rfl) hf
theorem w_J4_resize_j85 {r : Except Nat (Option Nat) × AH} (GA : GA l s0 a0 K lam) (Z : WZ l s0 a0 K p s m c cJ4_resize yJ4_resize.cls 14 b R 0 0 meth [] (some (.array (.object "java/util/HashMap$Node"))) yJ4_resize) (v0 : Option Nat) (v1 : Option Nat) (v2 : Int32) (v4 : Int32) (v5 : Int32)   {h : AH} {ls : Array Slot} (hl : LV ls 14 [(0, vR v0), (1, vR v1), (2, vI v2), (4, vI v4), (5, vI v5)]) (hf : f_J4_resize_j85 K v0 v1 v2 v4 v5 h = some r) : AW s0 K lam p l e R s m args below meth c (AQ s0 K lam below oR b r s) b h (F0 m 85 ls []) := by
  unfold f_J4_resize_j85 at hf
  have X := Z.1.1
  refine a_iload (pc := 85) X dJ4_resize_85 hl 4 rfl ?_
  refine AW.lift2 (fun _ _ _ _ k1 k2 => lv_if_ne (pc := 87) (tgt := 125) X.2.2.1 X.2.2.2.1 dJ4_resize_87 rfl k2 k1) (fun c => ?_) (fun c => ?_)
  · have hf := ite_t c hf
    refine a_iload (pc := 90) X dJ4_resize_90 hl 3 rfl ?_
    refine AW.lift (fun _ _ _ _ k => lv_i2f (pc := 92) X.2.2.1 X.2.2.2.1 dJ4_resize_92 k) ?_
    refine a_aload_n (pc := 93) X dJ4_resize_93 rfl hl 0 rfl ?_
    refine a_get (pc := 94) (φ := 2805) pF_t X Z.1.2.1 (gw X.1 X.2.1 q206) (fun _ q => q) (by decide) dJ4_resize_94 hf (fun x94 hf => ?_)
    obtain ⟨hg, hf⟩ := chk_some hf
    refine AW.lift (fun _ _ _ _ k => lv_fmul (pc := 97) X.2.2.1 X.2.2.2.1 dJ4_resize_97 (n32 hg) k) ?_
    refine a_fstore (pc := 98) X dJ4_resize_98 hl (by decide) (lv' := [(6, vF (FP.fmul (FP.i2f v4) x94)), (0, vR v0), (1, vR v1), (2, vI v2), (4, vI v4), (5, vI v5)]) rfl (fun ls hl => ?_)
    refine a_iload (pc := 100) X dJ4_resize_100 hl 4 rfl ?_
    refine AW.lift (fun _ _ _ _ k => lv_ldc (pc := 102) X.2.2.1 X.2.2.2.1 X.2.2.2.2.1 (gw X.1 X.2.1 q1146) dJ4_resize_102 k) ?_
    refine AW.lift2 (fun _ _ _ _ k1 k2 => lv_icmp_ge (pc := 104) (tgt := 121) X.2.2.1 X.2.2.2.1 dJ4_resize_104 rfl k1 k2) (fun c => ?_) (fun c => ?_)
    · have hf := ite_t c hf
      exact w_J4_resize_j121 GA Z v0 v1 v2 v4   (hl.sub [1, 2, 3, 4] rfl) hf
    · have hf := ite_f c hf
      refine a_fload (pc := 107) X dJ4_resize_107 hl 0 rfl ?_
      refine AW.lift (fun _ _ _ _ k => lv_ldcf (pc := 109) X.2.2.1 X.2.2.2.1 X.2.2.2.2.1 (gw X.1 X.2.1 q1159) dJ4_resize_109 k) ?_
      refine AW.lift (fun _ _ _ _ k => lv_fcmp (pc := 111) X.2.2.1 X.2.2.2.1 dJ4_resize_111 k) ?_
      refine AW.lift2 (fun _ _ _ _ k1 k2 => lv_if_ge (pc := 112) (tgt := 121) X.2.2.1 X.2.2.2.1 dJ4_resize_112 rfl k1 k2) (fun c => ?_) (fun c => ?_)
      · have hf := ite_t c hf
        exact w_J4_resize_j121 GA Z v0 v1 v2 v4   (hl.sub [1, 2, 3, 4] rfl) hf
      · have hf := ite_f c hf
        refine a_fload (pc := 115) X dJ4_resize_115 hl 0 rfl ?_
        refine AW.lift (fun _ _ _ _ k => lv_f2i (pc := 117) X.2.2.1 X.2.2.2.1 dJ4_resize_117 k) ?_
        refine AW.lift (fun _ _ _ _ k => lv_goto (pc := 118) (tgt := 123) X.2.2.1 X.2.2.2.1 dJ4_resize_118 rfl k) ?_
        exact w_J4_resize_j123 GA Z v0 v1 v2 v4 (FP.f2i (FP.fmul (FP.i2f v4) x94))  (hl.sub [1, 2, 3, 4] rfl) hf
  · have hf := ite_f c hf
    exact w_J4_resize_j125 GA Z v0 v1 v2 v4 v5   (hl.sub [0, 1, 2, 3, 4] rfl) hf
theorem w_J4_resize_j15 {r : Except Nat (Option Nat) × AH} (GA : GA l s0 a0 K lam) (Z : WZ l s0 a0 K p s m c cJ4_resize yJ4_resize.cls 14 b R 0 0 meth [] (some (.array (.object "java/util/HashMap$Node"))) yJ4_resize) (v0 : Option Nat) (v1 : Option Nat) (t0 : Int32)  {h : AH} {ls : Array Slot} (hl : LV ls 14 [(0, vR v0), (1, vR v1)]) (hf : f_J4_resize_j15 K v0 v1 t0 h = some r) : AW s0 K lam p l e R s m args below meth c (AQ s0 K lam below oR b r s) b h (F0 m 15 ls [.int t0]) := by
  unfold f_J4_resize_j15 at hf
  have X := Z.1.1
  refine a_istore_n (pc := 15) X dJ4_resize_15 rfl hl (by decide) (lv' := [(2, vI t0), (0, vR v0), (1, vR v1)]) rfl (fun ls hl => ?_)
  refine a_aload_n (pc := 16) X dJ4_resize_16 rfl hl 1 rfl ?_
  refine a_get (pc := 17) (φ := 2804) pI_t X Z.1.2.1 (gw X.1 X.2.1 q205) (fun _ q => q) (by decide) dJ4_resize_17 hf (fun x17 hf => ?_)
  refine a_istore_n (pc := 20) X dJ4_resize_20 rfl hl (by decide) (lv' := [(3, vI x17), (2, vI t0), (0, vR v0), (1, vR v1)]) rfl (fun ls hl => ?_)
  refine AW.lift (fun _ _ _ _ k => lv_iconst (pc := 21) (v := (0 : Int32)) X.2.2.1 X.2.2.2.1 dJ4_resize_21 rfl k) ?_
  refine a_istore (pc := 22) X dJ4_resize_22 hl (by decide) (lv' := [(5, vI (0 : Int32)), (3, vI x17), (2, vI t0), (0, vR v0), (1, vR v1)]) rfl (fun ls hl => ?_)
  refine a_iload_n (pc := 24) X dJ4_resize_24 rfl hl 2 rfl ?_
  refine AW.lift2 (fun _ _ _ _ k1 k2 => lv_if_le (pc := 25) (tgt := 67) X.2.2.1 X.2.2.2.1 dJ4_resize_25 rfl k1 k2) (fun c => ?_) (fun c => ?_)
  · have hf := ite_t c hf
    refine a_iload_n (pc := 67) X dJ4_resize_67 rfl hl 1 rfl ?_
    refine AW.lift2 (fun _ _ _ _ k1 k2 => lv_if_le (pc := 68) (tgt := 77) X.2.2.1 X.2.2.2.1 dJ4_resize_68 rfl k1 k2) (fun c => ?_) (fun c => ?_)
    · have hf := ite_t c hf
      refine AW.lift (fun _ _ _ _ k => lv_bipush (pc := 77) (v := (16 : Int32)) X.2.2.1 X.2.2.2.1 dJ4_resize_77 rfl k) ?_
      refine a_istore (pc := 79) X dJ4_resize_79 hl (by decide) (lv' := [(4, vI (16 : Int32)), (5, vI (0 : Int32)), (3, vI x17), (2, vI t0), (0, vR v0), (1, vR v1)]) rfl (fun ls hl => ?_)
      refine AW.lift (fun _ _ _ _ k => lv_bipush (pc := 81) (v := (12 : Int32)) X.2.2.1 X.2.2.2.1 dJ4_resize_81 rfl k) ?_
      refine a_istore (pc := 83) X dJ4_resize_83 hl (by decide) (lv' := [(5, vI (12 : Int32)), (4, vI (16 : Int32)), (3, vI x17), (2, vI t0), (0, vR v0), (1, vR v1)]) rfl (fun ls hl => ?_)
      exact w_J4_resize_j85 GA Z v0 v1 t0 (16 : Int32) (12 : Int32)   (hl.sub [4, 5, 3, 1, 0] rfl) hf
    · have hf := ite_f c hf
      refine a_iload_n (pc := 71) X dJ4_resize_71 rfl hl 1 rfl ?_
      refine a_istore (pc := 72) X dJ4_resize_72 hl (by decide) (lv' := [(4, vI x17), (5, vI (0 : Int32)), (3, vI x17), (2, vI t0), (0, vR v0), (1, vR v1)]) rfl (fun ls hl => ?_)
      refine AW.lift (fun _ _ _ _ k => lv_goto (pc := 74) (tgt := 85) X.2.2.1 X.2.2.2.1 dJ4_resize_74 rfl k) ?_
      exact w_J4_resize_j85 GA Z v0 v1 t0 x17 (0 : Int32)   (hl.sub [4, 5, 3, 0, 1] rfl) hf
  · have hf := ite_f c hf
    refine a_iload_n (pc := 28) X dJ4_resize_28 rfl hl 2 rfl ?_
    refine AW.lift (fun _ _ _ _ k => lv_ldc (pc := 29) X.2.2.1 X.2.2.2.1 X.2.2.2.2.1 (gw X.1 X.2.1 q1146) dJ4_resize_29 k) ?_
    refine AW.lift2 (fun _ _ _ _ k1 k2 => lv_icmp_lt (pc := 31) (tgt := 42) X.2.2.1 X.2.2.2.1 dJ4_resize_31 rfl k1 k2) (fun c => ?_) (fun c => ?_)
    · have hf := ite_t c hf
      refine a_iload_n (pc := 42) X dJ4_resize_42 rfl hl 2 rfl ?_
      refine AW.lift (fun _ _ _ _ k => lv_iconst (pc := 43) (v := (1 : Int32)) X.2.2.1 X.2.2.2.1 dJ4_resize_43 rfl k) ?_
      refine AW.lift (fun _ _ _ _ k => lv_ishl (pc := 44) X.2.2.1 X.2.2.2.1 dJ4_resize_44 k) ?_
      refine AW.lift (fun _ _ _ _ k => lv_dup (pc := 45) X.2.2.1 X.2.2.2.1 dJ4_resize_45 rfl k) ?_
      refine a_istore (pc := 46) X dJ4_resize_46 hl (by decide) (lv' := [(4, vI (t0 <<< ((1 : Int32) &&& 31))), (5, vI (0 : Int32)), (3, vI x17), (2, vI t0), (0, vR v0), (1, vR v1)]) rfl (fun ls hl => ?_)
      refine AW.lift (fun _ _ _ _ k => lv_ldc (pc := 48) X.2.2.1 X.2.2.2.1 X.2.2.2.2.1 (gw X.1 X.2.1 q1146) dJ4_resize_48 k) ?_
      refine AW.lift2 (fun _ _ _ _ k1 k2 => lv_icmp_ge (pc := 50) (tgt := 85) X.2.2.1 X.2.2.2.1 dJ4_resize_50 rfl k1 k2) (fun c => ?_) (fun c => ?_)
      · have hf := ite_t c hf
        exact w_J4_resize_j85 GA Z v0 v1 t0 (t0 <<< ((1 : Int32) &&& 31)) (0 : Int32)   (hl.sub [4, 5, 3, 0, 1] rfl) hf
      · have hf := ite_f c hf
        refine a_iload_n (pc := 53) X dJ4_resize_53 rfl hl 3 rfl ?_
        refine AW.lift (fun _ _ _ _ k => lv_bipush (pc := 54) (v := (16 : Int32)) X.2.2.1 X.2.2.2.1 dJ4_resize_54 rfl k) ?_
        refine AW.lift2 (fun _ _ _ _ k1 k2 => lv_icmp_lt (pc := 56) (tgt := 85) X.2.2.1 X.2.2.2.1 dJ4_resize_56 rfl k1 k2) (fun c => ?_) (fun c => ?_)
        · have hf := ite_t c hf
          exact w_J4_resize_j85 GA Z v0 v1 t0 (t0 <<< ((1 : Int32) &&& 31)) (0 : Int32)   (hl.sub [4, 5, 3, 0, 1] rfl) hf
        · have hf := ite_f c hf
          refine a_iload_n (pc := 59) X dJ4_resize_59 rfl hl 2 rfl ?_
          refine AW.lift (fun _ _ _ _ k => lv_iconst (pc := 60) (v := (1 : Int32)) X.2.2.1 X.2.2.2.1 dJ4_resize_60 rfl k) ?_
          refine AW.lift (fun _ _ _ _ k => lv_ishl (pc := 61) X.2.2.1 X.2.2.2.1 dJ4_resize_61 k) ?_
          refine a_istore (pc := 62) X dJ4_resize_62 hl (by decide) (lv' := [(5, vI (x17 <<< ((1 : Int32) &&& 31))), (4, vI (t0 <<< ((1 : Int32) &&& 31))), (3, vI x17), (2, vI t0), (0, vR v0), (1, vR v1)]) rfl (fun ls hl => ?_)
          refine AW.lift (fun _ _ _ _ k => lv_goto (pc := 64) (tgt := 85) X.2.2.1 X.2.2.2.1 dJ4_resize_64 rfl k) ?_
          exact w_J4_resize_j85 GA Z v0 v1 t0 (t0 <<< ((1 : Int32) &&& 31)) (x17 <<< ((1 : Int32) &&& 31))   (hl.sub [4, 5, 3, 1, 0] rfl) hf
    · have hf := ite_f c hf
      refine a_aload_n (pc := 34) X dJ4_resize_34 rfl hl 3 rfl ?_
      refine AW.lift (fun _ _ _ _ k => lv_ldc (pc := 35) X.2.2.1 X.2.2.2.1 X.2.2.2.2.1 (gw X.1 X.2.1 q1158) dJ4_resize_35 k) ?_
      refine a_put (pc := 37) (φ := 2804) X Z.1.2.1 Z.1.2.2.1 (gw X.1 X.2.1 q205) (fun _ q => q) (by decide) rfl rfl dJ4_resize_37 hf (fun h hf => ?_)
      refine a_aload_n (pc := 40) X dJ4_resize_40 rfl hl 4 rfl ?_
      exact a_areturn X Z.2.2.1 (Or.inr ⟨_, rfl⟩) Z.2.2.2.1 dJ4_resize_41 hf
theorem np_J4_resize : npar yJ4_resize.desc 0 := by unfold npar; decide +kernel
theorem hy_J4_resize : yJ4_resize.cls ≠ "java/lang/invoke/MethodHandle" ∧ yJ4_resize.cls ≠ "java/lang/invoke/VarHandle" := by decide +kernel
theorem w_J4_resize (GA : GA l s0 a0 K lam) (v0 : Option Nat) : AMet l s0 K lam yJ4_resize (Cond.code yJ4_resize cJ4_resize (14 : Nat) (Option.some (ClassFile.FieldType.array (ClassFile.FieldType.object "java/util/HashMap$Node")))) 0 0 [vR v0] oR (f_J4_resize K v0) := by
  refine AMet.of GA.1 (plainFor_of_name (by decide +kernel)) (Nat.le_of_ble_eq_true rfl) ?_
  intro b r hf p e s m args below meth c X hr hlk hnm hnd ht ls hl
  have Z : WZ l s0 a0 K p s m c cJ4_resize yJ4_resize.cls 14 b { frames := 0, cells := K 0 - aX b, slots := K 1 - aW b, locals := 0 } 0 0 meth [] (some (.array (.object "java/util/HashMap$Node"))) yJ4_resize := ⟨⟨X, GA.2.1, GA.2.2.1, rfl, rfl, Nat.le_refl _, Nat.le_refl _⟩, tab_nil ht, hr, hlk, hnm, hnd⟩
  unfold f_J4_resize at hf
  clear hr hlk hnm hnd ht
  refine a_aload_n (pc := 0) X dJ4_resize_0 rfl hl 0 rfl ?_
  refine a_get (pc := 1) (φ := 2800) pR_t X Z.1.2.1 (gw X.1 X.2.1 q198) (fun _ q => q) (by decide) dJ4_resize_1 hf (fun x1 hf => ?_)
  refine a_astore_n (pc := 4) X dJ4_resize_4 rfl hl (by decide) (lv' := [(1, vR x1), (0, vR v0)]) rfl (fun ls hl => ?_)
  refine a_aload_n (pc := 5) X dJ4_resize_5 rfl hl 0 rfl ?_
  refine a_ifnonnull (pc := 6) (tgt := 13) X dJ4_resize_6 rfl (fun c => ?_) (fun c => ?_)
  · have hf := ite_f c hf
    refine a_aload_n (pc := 13) X dJ4_resize_13 rfl hl 0 rfl ?_
    refine a_arraylength (pc := 14) X dJ4_resize_14 hf (fun x14 hf => ?_)
    exact w_J4_resize_j15 GA Z v0 x1 x14  (hl.sub [1, 0] rfl) hf
  · have hf := ite_t c hf
    refine AW.lift (fun _ _ _ _ k => lv_iconst (pc := 9) (v := (0 : Int32)) X.2.2.1 X.2.2.2.1 dJ4_resize_9 rfl k) ?_
    refine AW.lift (fun _ _ _ _ k => lv_goto (pc := 10) (tgt := 15) X.2.2.1 X.2.2.2.1 dJ4_resize_10 rfl k) ?_
    exact w_J4_resize_j15 GA Z v0 x1 (0 : Int32)  (hl.sub [1, 0] rfl) hf
theorem np_J34_init : npar yJ34_init.desc 0 := by unfold npar; decide +kernel
theorem hy_J34_init : yJ34_init.cls ≠ "java/lang/invoke/MethodHandle" ∧ yJ34_init.cls ≠ "java/lang/invoke/VarHandle" := by decide +kernel
theorem w_J34_init (GA : GA l s0 a0 K lam) (v0 : Option Nat) : AMet l s0 K lam yJ34_init (Cond.code yJ34_init cJ34_init (1 : Nat) (Option.none : Option ClassFile.FieldType)) 2 40 [vR v0] oV (f_J34_init K v0) := by
  refine AMet.of GA.1 (plainFor_of_name (by decide +kernel)) (Nat.le_of_ble_eq_true rfl) ?_
  intro b r hf p e s m args below meth c X hr hlk hnm hnd ht ls hl
  have Z : WZ l s0 a0 K p s m c cJ34_init yJ34_init.cls 1 b { frames := 2, cells := K 0 - aX b, slots := K 1 - aW b, locals := 40 } 2 40 meth [] none yJ34_init := ⟨⟨X, GA.2.1, GA.2.2.1, rfl, rfl, Nat.le_refl _, Nat.le_refl _⟩, tab_nil ht, hr, hlk, hnm, hnd⟩
  unfold f_J34_init at hf
  clear hr hlk hnm hnd ht
  refine a_aload_n (pc := 0) X dJ34_init_0 rfl hl 0 rfl ?_
  obtain ⟨a1, rfl, hf⟩ := nz_some hf
  refine a_callb (pc := 1) (rs := []) (avs := [vR (some a1)]) Z.1 (w_J0_init GA (some a1)) (Or.inl rfl) q162 q76 (by decide) (by decide) dJ34_init_1 hl.1 (Nat.le_of_ble_eq_true rfl) hf (ct_I X q162 q1445 q161 rfl hy_J0_init np_J0_init rfl dJ34_init_1) (fun q h he hX => a_out (unc_of Z.2.1 rfl) Z.2.2.2.1 he hX) (fun _ h hf => ?kk1)
  refine AW.eq (g2 := F0 m 4 ls []) rfl ?_
  exact a_return X Z.2.2.1 Z.2.2.2.1 dJ34_init_4 hf
theorem np_J35_init : npar yJ35_init.desc 1 := by unfold npar; decide +kernel
theorem hy_J35_init : yJ35_init.cls ≠ "java/lang/invoke/MethodHandle" ∧ yJ35_init.cls ≠ "java/lang/invoke/VarHandle" := by decide +kernel
theorem w_J35_init (GA : GA l s0 a0 K lam) (v0 : Option Nat) (v1 : Option Nat) : AMet l s0 K lam yJ35_init (Cond.code yJ35_init cJ35_init (2 : Nat) (Option.none : Option ClassFile.FieldType)) 3 60 [vR v0, vR v1] oV (f_J35_init K v0 v1) := by
  refine AMet.of GA.1 (plainFor_of_name (by decide +kernel)) (Nat.le_of_ble_eq_true rfl) ?_
  intro b r hf p e s m args below meth c X hr hlk hnm hnd ht ls hl
  have Z : WZ l s0 a0 K p s m c cJ35_init yJ35_init.cls 2 b { frames := 3, cells := K 0 - aX b, slots := K 1 - aW b, locals := 60 } 3 60 meth [] none yJ35_init := ⟨⟨X, GA.2.1, GA.2.2.1, rfl, rfl, Nat.le_refl _, Nat.le_refl _⟩, tab_nil ht, hr, hlk, hnm, hnd⟩
  unfold f_J35_init at hf
  clear hr hlk hnm hnd ht
  refine a_aload_n (pc := 0) X dJ35_init_0 rfl hl 0 rfl ?_
  refine a_aload_n (pc := 1) X dJ35_init_1 rfl hl 1 rfl ?_
  refine a_putF (pc := 2) (φ := 3000) X Z.1.2.1 Z.1.2.2.1 (gw X.1 X.2.1 q1446) (fun _ q => q) (by decide) rfl Z.2.2.2.2.1 rfl (fits_rf _ (Or.inl ⟨_, rfl⟩)) dJ35_init_2 hf (fun h hf => ?_)
  refine a_aload_n (pc := 5) X dJ35_init_5 rfl hl 0 rfl ?_
  obtain ⟨a6, rfl, hf⟩ := nz_some hf
  refine a_callb (pc := 6) (rs := []) (avs := [vR (some a6)]) Z.1 (w_J34_init GA (some a6)) (Or.inl rfl) q1444 q120 (by decide) (by decide) dJ35_init_6 hl.1 (Nat.le_of_ble_eq_true rfl) hf (ct_I X q1444 q1442 q1443 rfl hy_J34_init np_J34_init rfl dJ35_init_6) (fun q h he hX => a_out (unc_of Z.2.1 rfl) Z.2.2.2.1 he hX) (fun _ h hf => ?kk6)
  refine AW.eq (g2 := F0 m 9 ls []) rfl ?_
  exact a_return X Z.2.2.1 Z.2.2.2.1 dJ35_init_9 hf
theorem np_J4_entrySet : npar yJ4_entrySet.desc 0 := by unfold npar; decide +kernel
theorem hy_J4_entrySet : yJ4_entrySet.cls ≠ "java/lang/invoke/MethodHandle" ∧ yJ4_entrySet.cls ≠ "java/lang/invoke/VarHandle" := by decide +kernel
theorem w_J4_entrySet (GA : GA l s0 a0 K lam) (v0 : Option Nat) : AMet l s0 K lam yJ4_entrySet (Cond.code yJ4_entrySet cJ4_entrySet (2 : Nat) (Option.some (ClassFile.FieldType.object "java/util/Set"))) 4 81 [vR v0] oR (f_J4_entrySet K v0) := by
  refine AMet.of GA.1 (plainFor_of_name (by decide +kernel)) (Nat.le_of_ble_eq_true rfl) ?_
  intro b r hf p e s m args below meth c X hr hlk hnm hnd ht ls hl
  have Z : WZ l s0 a0 K p s m c cJ4_entrySet yJ4_entrySet.cls 2 b { frames := 4, cells := K 0 - aX b, slots := K 1 - aW b, locals := 81 } 4 81 meth [] (some (.object "java/util/Set")) yJ4_entrySet := ⟨⟨X, GA.2.1, GA.2.2.1, rfl, rfl, Nat.le_refl _, Nat.le_refl _⟩, tab_nil ht, hr, hlk, hnm, hnd⟩
  unfold f_J4_entrySet at hf
  clear hr hlk hnm hnd ht
  refine a_aload_n (pc := 0) X dJ4_entrySet_0 rfl hl 0 rfl ?_
  refine a_get (pc := 1) (φ := 2801) pR_t X Z.1.2.1 (gw X.1 X.2.1 q199) (fun _ q => q) (by decide) dJ4_entrySet_1 hf (fun x1 hf => ?_)
  refine AW.lift (fun _ _ _ _ k => lv_dup (pc := 4) X.2.2.1 X.2.2.2.1 dJ4_entrySet_4 (cat_rf _) k) ?_
  refine a_astore_n (pc := 5) X dJ4_entrySet_5 rfl hl (by decide) (lv' := [(1, vR x1), (0, vR v0)]) rfl (fun ls hl => ?_)
  refine a_ifnonnull (pc := 6) (tgt := 25) X dJ4_entrySet_6 rfl (fun c => ?_) (fun c => ?_)
  · have hf := ite_f c hf
    refine a_aload_n (pc := 25) X dJ4_entrySet_25 rfl hl 0 rfl ?_
    exact a_areturn X Z.2.2.1 (Or.inl ⟨_, rfl⟩) Z.2.2.2.1 dJ4_entrySet_26 hf
  · have hf := ite_t c hf
    refine a_aload_n (pc := 9) X dJ4_entrySet_9 rfl hl 1 rfl ?_
    refine a_new (pc := 10) (cK := 30) (n := 1) X Z.1.2.1 Z.1.2.2.1 Z.1.2.2.2.1 Z.1.2.2.2.2.1 ⟨by decide, by decide, by decide⟩ (gw X.1 X.2.1 q1437) (gw X.1 X.2.1 q1438) (gw X.1 X.2.1 q121) dJ4_entrySet_10 hf (fun x10 h hf => ?_)
    refine AW.lift (fun _ _ _ _ k => lv_dup (pc := 13) X.2.2.1 X.2.2.2.1 dJ4_entrySet_13 (cat_rf _) k) ?_
    refine a_aload_n (pc := 14) X dJ4_entrySet_14 rfl hl 1 rfl ?_
    refine a_callb (pc := 15) (rs := [vR (some x10), vR v0]) (avs := [vR (some x10), vR v0]) Z.1 (w_J35_init GA (some x10) v0) (Or.inl rfl) q1441 q121 (by decide) (by decide) dJ4_entrySet_15 hl.1 (Nat.le_of_ble_eq_true rfl) hf (ct_I X q1441 q1439 q1440 rfl hy_J35_init np_J35_init rfl dJ4_entrySet_15) (fun q h he hX => a_out (unc_of Z.2.1 rfl) Z.2.2.2.1 he hX) (fun _ h hf => ?kk15)
    refine AW.eq (g2 := F0 m 18 ls [va_rf (some x10), va_rf v0]) rfl ?_
    refine AW.lift (fun _ _ _ _ k => lv_dup_x1 (pc := 18) X.2.2.1 X.2.2.2.1 dJ4_entrySet_18 (cat_rf _) (cat_rf _) k) ?_
    refine a_put (pc := 19) (φ := 2801) X Z.1.2.1 Z.1.2.2.1 (gw X.1 X.2.1 q199) (fun _ q => q) (by decide) rfl (fits_rf _ (Or.inl ⟨_, rfl⟩)) dJ4_entrySet_19 hf (fun h hf => ?_)
    refine AW.lift (fun _ _ _ _ k => lv_goto (pc := 22) (tgt := 26) X.2.2.1 X.2.2.2.1 dJ4_entrySet_22 rfl k) ?_
    exact a_areturn X Z.2.2.1 (Or.inl ⟨_, rfl⟩) Z.2.2.2.1 dJ4_entrySet_26 hf
theorem w_J25_init_b48 {r : Except Nat (Unit) × AH} (GA : GA l s0 a0 K lam) (Z : WZ l s0 a0 K p s m c cJ25_init yJ25_init.cls 3 b R 1 20 meth [] none yJ25_init) (v0 : Option Nat) (v2 : Option Nat)  (rc48 : AM (Unit)) (hrc48 : ∀  (h : AH) (ls : Array Slot), LV ls 3 [(0, vR v0), (2, vR v2)] → rc48 h = some r → AW s0 K lam p l e R s m args below meth c (AQ s0 K lam below oV b r s) b h (F0 m 48 ls [])) {h : AH} {ls : Array Slot} (hl : LV ls 3 [(0, vR v0), (2, vR v2)]) (hf : f_J25_init_b48 K rc48 v0 v2 h = some r) : AW s0 K lam p l e R s m args below meth c (AQ s0 K lam below oV b r s) b h (F0 m 48 ls []) := by
  unfold f_J25_init_b48 at hf
  have X := Z.1.1
  refine a_aload_n (pc := 48) X dJ25_init_48 rfl hl 0 rfl ?_
  refine a_get (pc := 49) (φ := 3103) pI_t X Z.1.2.1 (gw X.1 X.2.1 q1035) (fun _ q => q) (by decide) dJ25_init_49 hf (fun x49 hf => ?_)
  refine a_aload_n (pc := 52) X dJ25_init_52 rfl hl 1 rfl ?_
  refine a_arraylength (pc := 53) X dJ25_init_53 hf (fun x53 hf => ?_)
  refine AW.lift2 (fun _ _ _ _ k1 k2 => lv_icmp_ge (pc := 54) (tgt := 78) X.2.2.1 X.2.2.2.1 dJ25_init_54 rfl k1 k2) (fun c => ?_) (fun c => ?_)
  · have hf := ite_t c hf
    exact a_return X Z.2.2.1 Z.2.2.2.1 dJ25_init_78 hf
  · have hf := ite_f c hf
    refine a_aload_n (pc := 57) X dJ25_init_57 rfl hl 0 rfl ?_
    refine a_aload_n (pc := 58) X dJ25_init_58 rfl hl 1 rfl ?_
    refine a_aload_n (pc := 59) X dJ25_init_59 rfl hl 0 rfl ?_
    refine AW.lift (fun _ _ _ _ k => lv_dup (pc := 60) X.2.2.1 X.2.2.2.1 dJ25_init_60 (cat_rf _) k) ?_
    refine a_get (pc := 61) (φ := 3103) pI_t X Z.1.2.1 (gw X.1 X.2.1 q1035) (fun _ q => q) (by decide) dJ25_init_61 hf (fun x61 hf => ?_)
    refine AW.lift (fun _ _ _ _ k => lv_dup_x1 (pc := 64) X.2.2.1 X.2.2.2.1 dJ25_init_64 rfl (cat_rf _) k) ?_
    refine AW.lift (fun _ _ _ _ k => lv_iconst (pc := 65) (v := (1 : Int32)) X.2.2.1 X.2.2.2.1 dJ25_init_65 rfl k) ?_
    refine AW.lift (fun _ _ _ _ k => lv_iadd (pc := 66) X.2.2.1 X.2.2.2.1 dJ25_init_66 k) ?_
    refine a_put (pc := 67) (φ := 3103) X Z.1.2.1 Z.1.2.2.1 (gw X.1 X.2.1 q1035) (fun _ q => q) (by decide) rfl rfl dJ25_init_67 hf (fun h hf => ?_)
    refine a_aaload (pc := 70) (t := 1007) (by decide) rfl X dJ25_init_70 hf (fun x70 hf => ?_)
    refine AW.lift (fun _ _ _ _ k => lv_dup_x1 (pc := 71) X.2.2.1 X.2.2.2.1 dJ25_init_71 (cat_rf _) (cat_rf _) k) ?_
    refine a_put (pc := 72) (φ := 3100) X Z.1.2.1 Z.1.2.2.1 (gw X.1 X.2.1 q1032) (fun _ q => q) (by decide) rfl (fits_rf _ (Or.inl ⟨_, rfl⟩)) dJ25_init_72 hf (fun h hf => ?_)
    refine a_ifnull (pc := 75) (tgt := 48) X dJ25_init_75 rfl (fun c => ?_) (fun c => ?_)
    · have hf := ite_t c hf
      exact hrc48  _ _ (hl.sub [0, 1] rfl) hf
    · have hf := ite_f c hf
      exact a_return X Z.2.2.1 Z.2.2.2.1 dJ25_init_78 hf
theorem w_J25_init_l48 {r : Except Nat (Unit) × AH} (GA : GA l s0 a0 K lam) (Z : WZ l s0 a0 K p s m c cJ25_init yJ25_init.cls 3 b R 1 20 meth [] none yJ25_init) (v0 : Option Nat) (v2 : Option Nat)  : ∀ (n : Nat)  (h : AH) (ls : Array Slot), LV ls 3 [(0, vR v0), (2, vR v2)] → f_J25_init_l48 K v0 v2 n  h = some r → AW s0 K lam p l e R s m args below meth c (AQ s0 K lam below oV b r s) b h (F0 m 48 ls []) := by
  intro n
  induction n with
  | zero => intro  h ls hl hf; exact fl_no (h := h) hf
  | succ n ih => intro  h ls hl hf; exact w_J25_init_b48 GA Z v0 v2 (f_J25_init_l48 K v0 v2 n) ih hl hf
theorem np_J25_init : npar yJ25_init.desc 1 := by unfold npar; decide +kernel
theorem hy_J25_init : yJ25_init.cls ≠ "java/lang/invoke/MethodHandle" ∧ yJ25_init.cls ≠ "java/lang/invoke/VarHandle" := by decide +kernel
theorem w_J25_init (GA : GA l s0 a0 K lam) (v0 : Option Nat) (v1 : Option Nat) : AMet l s0 K lam yJ25_init (Cond.code yJ25_init cJ25_init (3 : Nat) (Option.none : Option ClassFile.FieldType)) 1 20 [vR v0, vR v1] oV (f_J25_init K v0 v1) := by
  refine AMet.of GA.1 (plainFor_of_name (by decide +kernel)) (Nat.le_of_ble_eq_true rfl) ?_
  intro b r hf p e s m args below meth c X hr hlk hnm hnd ht ls hl
  have Z : WZ l s0 a0 K p s m c cJ25_init yJ25_init.cls 3 b { frames := 1, cells := K 0 - aX b, slots := K 1 - aW b, locals := 20 } 1 20 meth [] none yJ25_init := ⟨⟨X, GA.2.1, GA.2.2.1, rfl, rfl, Nat.le_refl _, Nat.le_refl _⟩, tab_nil ht, hr, hlk, hnm, hnd⟩
  unfold f_J25_init at hf
  clear hr hlk hnm hnd ht
  refine a_aload_n (pc := 0) X dJ25_init_0 rfl hl 0 rfl ?_
  refine a_aload_n (pc := 1) X dJ25_init_1 rfl hl 1 rfl ?_
  refine a_putF (pc := 2) (φ := 3104) X Z.1.2.1 Z.1.2.2.1 (gw X.1 X.2.1 q1036) (fun _ q => q) (by decide) rfl Z.2.2.2.2.1 rfl (fits_rf _ (Or.inl ⟨_, rfl⟩)) dJ25_init_2 hf (fun h hf => ?_)
  refine a_aload_n (pc := 5) X dJ25_init_5 rfl hl 0 rfl ?_
  obtain ⟨a6, rfl, hf⟩ := nz_some hf
  refine a_objInit (pc := 6) (rs := []) Z.1 q1031 q144 q145 (by decide) (by decide) hl.1 (Nat.le_of_ble_eq_true rfl) dJ25_init_6 ?_
  refine AW.eq (g2 := F0 m 9 ls []) rfl ?_
  refine a_aload_n (pc := 9) X dJ25_init_9 rfl hl 0 rfl ?_
  refine a_aload_n (pc := 10) X dJ25_init_10 rfl hl 1 rfl ?_
  refine a_get (pc := 11) (φ := 2803) pI_t X Z.1.2.1 (gw X.1 X.2.1 q203) (fun _ q => q) (by decide) dJ25_init_11 hf (fun x11 hf => ?_)
  refine a_put (pc := 14) (φ := 3102) X Z.1.2.1 Z.1.2.2.1 (gw X.1 X.2.1 q1034) (fun _ q => q) (by decide) rfl rfl dJ25_init_14 hf (fun h hf => ?_)
  refine a_aload_n (pc := 17) X dJ25_init_17 rfl hl 1 rfl ?_
  refine a_get (pc := 18) (φ := 2800) pR_t X Z.1.2.1 (gw X.1 X.2.1 q197) (fun _ q => q) (by decide) dJ25_init_18 hf (fun x18 hf => ?_)
  refine a_astore_n (pc := 21) X dJ25_init_21 rfl hl (by decide) (lv' := [(2, vR x18), (0, vR (some a6)), (1, vR v1)]) rfl (fun ls hl => ?_)
  refine a_aload_n (pc := 22) X dJ25_init_22 rfl hl 1 rfl ?_
  refine a_aload_n (pc := 23) X dJ25_init_23 rfl hl 1 rfl ?_
  refine a_null (pc := 24) X dJ25_init_24 ?_
  refine AW.lift (fun _ _ _ _ k => lv_dup_x1 (pc := 25) X.2.2.1 X.2.2.2.1 dJ25_init_25 (cat_rf _) (cat_rf _) k) ?_
  refine a_put (pc := 26) (φ := 3100) X Z.1.2.1 Z.1.2.2.1 (gw X.1 X.2.1 q1032) (fun _ q => q) (by decide) rfl (fits_rf _ (Or.inl ⟨_, rfl⟩)) dJ25_init_26 hf (fun h hf => ?_)
  refine a_put (pc := 29) (φ := 3101) X Z.1.2.1 Z.1.2.2.1 (gw X.1 X.2.1 q1033) (fun _ q => q) (by decide) rfl (fits_rf _ (Or.inl ⟨_, rfl⟩)) dJ25_init_29 hf (fun h hf => ?_)
  refine a_aload_n (pc := 32) X dJ25_init_32 rfl hl 1 rfl ?_
  refine AW.lift (fun _ _ _ _ k => lv_iconst (pc := 33) (v := (0 : Int32)) X.2.2.1 X.2.2.2.1 dJ25_init_33 rfl k) ?_
  refine a_put (pc := 34) (φ := 3103) X Z.1.2.1 Z.1.2.2.1 (gw X.1 X.2.1 q1035) (fun _ q => q) (by decide) rfl rfl dJ25_init_34 hf (fun h hf => ?_)
  refine a_aload_n (pc := 37) X dJ25_init_37 rfl hl 0 rfl ?_
  refine a_ifnull (pc := 38) (tgt := 78) X dJ25_init_38 rfl (fun c => ?_) (fun c => ?_)
  · have hf := ite_t c hf
    exact a_return X Z.2.2.1 Z.2.2.2.1 dJ25_init_78 hf
  · have hf := ite_f c hf
    refine a_aload_n (pc := 41) X dJ25_init_41 rfl hl 2 rfl ?_
    refine a_get (pc := 42) (φ := 2802) pI_t X Z.1.2.1 (gw X.1 X.2.1 q200) (fun _ q => q) (by decide) dJ25_init_42 hf (fun x42 hf => ?_)
    refine AW.lift2 (fun _ _ _ _ k1 k2 => lv_if_le (pc := 45) (tgt := 78) X.2.2.1 X.2.2.2.1 dJ25_init_45 rfl k1 k2) (fun c => ?_) (fun c => ?_)
    · have hf := ite_t c hf
      exact a_return X Z.2.2.1 Z.2.2.2.1 dJ25_init_78 hf
    · have hf := ite_f c hf
      exact w_J25_init_l48 GA Z (some a6) x18  FU  _ _ (hl.sub [1, 0] rfl) hf
theorem np_J26_init : npar yJ26_init.desc 1 := by unfold npar; decide +kernel
theorem hy_J26_init : yJ26_init.cls ≠ "java/lang/invoke/MethodHandle" ∧ yJ26_init.cls ≠ "java/lang/invoke/VarHandle" := by decide +kernel
theorem w_J26_init (GA : GA l s0 a0 K lam) (v0 : Option Nat) (v1 : Option Nat) : AMet l s0 K lam yJ26_init (Cond.code yJ26_init cJ26_init (2 : Nat) (Option.none : Option ClassFile.FieldType)) 2 42 [vR v0, vR v1] oV (f_J26_init K v0 v1) := by
  refine AMet.of GA.1 (plainFor_of_name (by decide +kernel)) (Nat.le_of_ble_eq_true rfl) ?_
  intro b r hf p e s m args below meth c X hr hlk hnm hnd ht ls hl
  have Z : WZ l s0 a0 K p s m c cJ26_init yJ26_init.cls 2 b { frames := 2, cells := K 0 - aX b, slots := K 1 - aW b, locals := 42 } 2 42 meth [] none yJ26_init := ⟨⟨X, GA.2.1, GA.2.2.1, rfl, rfl, Nat.le_refl _, Nat.le_refl _⟩, tab_nil ht, hr, hlk, hnm, hnd⟩
  unfold f_J26_init at hf
  clear hr hlk hnm hnd ht
  refine a_aload_n (pc := 0) X dJ26_init_0 rfl hl 0 rfl ?_
  refine a_aload_n (pc := 1) X dJ26_init_1 rfl hl 1 rfl ?_
  obtain ⟨a2, rfl, hf⟩ := nz_some hf
  refine a_callb (pc := 2) (rs := []) (avs := [vR (some a2), vR v1]) Z.1 (w_J25_init GA (some a2) v1) (Or.inl rfl) q1030 q109 (by decide) (by decide) dJ26_init_2 hl.1 (Nat.le_of_ble_eq_true rfl) hf (ct_I X q1030 q1028 q1029 rfl hy_J25_init np_J25_init rfl dJ26_init_2) (fun q h he hX => a_out (unc_of Z.2.1 rfl) Z.2.2.2.1 he hX) (fun _ h hf => ?kk2)
  refine AW.eq (g2 := F0 m 5 ls []) rfl ?_
  exact a_return X Z.2.2.1 Z.2.2.2.1 dJ26_init_5 hf
theorem np_J35_iterator : npar yJ35_iterator.desc 0 := by unfold npar; decide +kernel
theorem hy_J35_iterator : yJ35_iterator.cls ≠ "java/lang/invoke/MethodHandle" ∧ yJ35_iterator.cls ≠ "java/lang/invoke/VarHandle" := by decide +kernel
theorem w_J35_iterator (GA : GA l s0 a0 K lam) (v0 : Option Nat) : AMet l s0 K lam yJ35_iterator (Cond.code yJ35_iterator cJ35_iterator (1 : Nat) (Option.some (ClassFile.FieldType.object "java/util/Iterator"))) 3 63 [vR v0] oR (f_J35_iterator K v0) := by
  refine AMet.of GA.1 (plainFor_of_name (by decide +kernel)) (Nat.le_of_ble_eq_true rfl) ?_
  intro b r hf p e s m args below meth c X hr hlk hnm hnd ht ls hl
  have Z : WZ l s0 a0 K p s m c cJ35_iterator yJ35_iterator.cls 1 b { frames := 3, cells := K 0 - aX b, slots := K 1 - aW b, locals := 63 } 3 63 meth [] (some (.object "java/util/Iterator")) yJ35_iterator := ⟨⟨X, GA.2.1, GA.2.2.1, rfl, rfl, Nat.le_refl _, Nat.le_refl _⟩, tab_nil ht, hr, hlk, hnm, hnd⟩
  unfold f_J35_iterator at hf
  clear hr hlk hnm hnd ht
  refine a_new (pc := 0) (cK := 32) (n := 5) X Z.1.2.1 Z.1.2.2.1 Z.1.2.2.2.1 Z.1.2.2.2.2.1 ⟨by decide, by decide, by decide⟩ (gw X.1 X.2.1 q1023) (gw X.1 X.2.1 q1024) (gw X.1 X.2.1 q110) dJ35_iterator_0 hf (fun x0 h hf => ?_)
  refine AW.lift (fun _ _ _ _ k => lv_dup (pc := 3) X.2.2.1 X.2.2.2.1 dJ35_iterator_3 (cat_rf _) k) ?_
  refine a_aload_n (pc := 4) X dJ35_iterator_4 rfl hl 0 rfl ?_
  refine a_get (pc := 5) (φ := 3000) pR_t X Z.1.2.1 (gw X.1 X.2.1 q1446) (fun _ q => q) (by decide) dJ35_iterator_5 hf (fun x5 hf => ?_)
  refine a_callb (pc := 8) (rs := [vR (some x0)]) (avs := [vR (some x0), vR x5]) Z.1 (w_J26_init GA (some x0) x5) (Or.inl rfl) q1027 q110 (by decide) (by decide) dJ35_iterator_8 hl.1 (Nat.le_of_ble_eq_true rfl) hf (ct_I X q1027 q1025 q1026 rfl hy_J26_init np_J26_init rfl dJ35_iterator_8) (fun q h he hX => a_out (unc_of Z.2.1 rfl) Z.2.2.2.1 he hX) (fun _ h hf => ?kk8)
  refine AW.eq (g2 := F0 m 11 ls [va_rf (some x0)]) rfl ?_
  exact a_areturn X Z.2.2.1 (Or.inl ⟨_, rfl⟩) Z.2.2.2.1 dJ35_iterator_11 hf
theorem np_J25_hasNext : npar yJ25_hasNext.desc 0 := by unfold npar; decide +kernel
theorem hy_J25_hasNext : yJ25_hasNext.cls ≠ "java/lang/invoke/MethodHandle" ∧ yJ25_hasNext.cls ≠ "java/lang/invoke/VarHandle" := by decide +kernel
theorem w_J25_hasNext (GA : GA l s0 a0 K lam) (v0 : Option Nat) : AMet l s0 K lam yJ25_hasNext (Cond.code yJ25_hasNext cJ25_hasNext (1 : Nat) (Option.some ClassFile.FieldType.boolean)) 0 0 [vR v0] oI (f_J25_hasNext K v0) := by
  refine AMet.of GA.1 (plainFor_of_name (by decide +kernel)) (Nat.le_of_ble_eq_true rfl) ?_
  intro b r hf p e s m args below meth c X hr hlk hnm hnd ht ls hl
  have Z : WZ l s0 a0 K p s m c cJ25_hasNext yJ25_hasNext.cls 1 b { frames := 0, cells := K 0 - aX b, slots := K 1 - aW b, locals := 0 } 0 0 meth [] (some (.boolean)) yJ25_hasNext := ⟨⟨X, GA.2.1, GA.2.2.1, rfl, rfl, Nat.le_refl _, Nat.le_refl _⟩, tab_nil ht, hr, hlk, hnm, hnd⟩
  unfold f_J25_hasNext at hf
  clear hr hlk hnm hnd ht
  refine a_aload_n (pc := 0) X dJ25_hasNext_0 rfl hl 0 rfl ?_
  refine a_get (pc := 1) (φ := 3100) pR_t X Z.1.2.1 (gw X.1 X.2.1 q1032) (fun _ q => q) (by decide) dJ25_hasNext_1 hf (fun x1 hf => ?_)
  refine a_ifnull (pc := 4) (tgt := 11) X dJ25_hasNext_4 rfl (fun c => ?_) (fun c => ?_)
  · have hf := ite_t c hf
    refine AW.lift (fun _ _ _ _ k => lv_iconst (pc := 11) (v := (0 : Int32)) X.2.2.1 X.2.2.2.1 dJ25_hasNext_11 rfl k) ?_
    exact a_zreturn X Z.2.2.1 rfl Z.2.2.2.1 dJ25_hasNext_12 hf
  · have hf := ite_f c hf
    refine AW.lift (fun _ _ _ _ k => lv_iconst (pc := 7) (v := (1 : Int32)) X.2.2.1 X.2.2.2.1 dJ25_hasNext_7 rfl k) ?_
    refine AW.lift (fun _ _ _ _ k => lv_goto (pc := 8) (tgt := 12) X.2.2.1 X.2.2.2.1 dJ25_hasNext_8 rfl k) ?_
    exact a_zreturn X Z.2.2.1 rfl Z.2.2.2.1 dJ25_hasNext_12 hf
theorem w_J25_nextNode_b68 {r : Except Nat (Option Nat) × AH} (GA : GA l s0 a0 K lam) (Z : WZ l s0 a0 K p s m c cJ25_nextNode yJ25_nextNode.cls 3 b R 8 400 meth [] (some (.object "java/util/HashMap$Node")) yJ25_nextNode) (v0 : Option Nat) (v1 : Option Nat) (v2 : Option Nat)  (rc68 : AM (Option Nat)) (hrc68 : ∀  (h : AH) (ls : Array Slot), LV ls 3 [(0, vR v0), (1, vR v1), (2, vR v2)] → rc68 h = some r → AW s0 K lam p l e R s m args below meth c (AQ s0 K lam below oR b r s) b h (F0 m 68 ls [])) {h : AH} {ls : Array Slot} (hl : LV ls 3 [(0, vR v0), (1, vR v1), (2, vR v2)]) (hf : f_J25_nextNode_b68 K rc68 v0 v1 v2 h = some r) : AW s0 K lam p l e R s m args below meth c (AQ s0 K lam below oR b r s) b h (F0 m 68 ls []) := by
  unfold f_J25_nextNode_b68 at hf
  have X := Z.1.1
  refine a_aload_n (pc := 68) X dJ25_nextNode_68 rfl hl 0 rfl ?_
  refine a_get (pc := 69) (φ := 3103) pI_t X Z.1.2.1 (gw X.1 X.2.1 q1035) (fun _ q => q) (by decide) dJ25_nextNode_69 hf (fun x69 hf => ?_)
  refine a_aload_n (pc := 72) X dJ25_nextNode_72 rfl hl 1 rfl ?_
  refine a_arraylength (pc := 73) X dJ25_nextNode_73 hf (fun x73 hf => ?_)
  refine AW.lift2 (fun _ _ _ _ k1 k2 => lv_icmp_ge (pc := 74) (tgt := 98) X.2.2.1 X.2.2.2.1 dJ25_nextNode_74 rfl k1 k2) (fun c => ?_) (fun c => ?_)
  · have hf := ite_t c hf
    refine a_aload_n (pc := 98) X dJ25_nextNode_98 rfl hl 2 rfl ?_
    exact a_areturn X Z.2.2.1 (Or.inl ⟨_, rfl⟩) Z.2.2.2.1 dJ25_nextNode_99 hf
  · have hf := ite_f c hf
    refine a_aload_n (pc := 77) X dJ25_nextNode_77 rfl hl 0 rfl ?_
    refine a_aload_n (pc := 78) X dJ25_nextNode_78 rfl hl 1 rfl ?_
    refine a_aload_n (pc := 79) X dJ25_nextNode_79 rfl hl 0 rfl ?_
    refine AW.lift (fun _ _ _ _ k => lv_dup (pc := 80) X.2.2.1 X.2.2.2.1 dJ25_nextNode_80 (cat_rf _) k) ?_
    refine a_get (pc := 81) (φ := 3103) pI_t X Z.1.2.1 (gw X.1 X.2.1 q1035) (fun _ q => q) (by decide) dJ25_nextNode_81 hf (fun x81 hf => ?_)
    refine AW.lift (fun _ _ _ _ k => lv_dup_x1 (pc := 84) X.2.2.1 X.2.2.2.1 dJ25_nextNode_84 rfl (cat_rf _) k) ?_
    refine AW.lift (fun _ _ _ _ k => lv_iconst (pc := 85) (v := (1 : Int32)) X.2.2.1 X.2.2.2.1 dJ25_nextNode_85 rfl k) ?_
    refine AW.lift (fun _ _ _ _ k => lv_iadd (pc := 86) X.2.2.1 X.2.2.2.1 dJ25_nextNode_86 k) ?_
    refine a_put (pc := 87) (φ := 3103) X Z.1.2.1 Z.1.2.2.1 (gw X.1 X.2.1 q1035) (fun _ q => q) (by decide) rfl rfl dJ25_nextNode_87 hf (fun h hf => ?_)
    refine a_aaload (pc := 90) (t := 1007) (by decide) rfl X dJ25_nextNode_90 hf (fun x90 hf => ?_)
    refine AW.lift (fun _ _ _ _ k => lv_dup_x1 (pc := 91) X.2.2.1 X.2.2.2.1 dJ25_nextNode_91 (cat_rf _) (cat_rf _) k) ?_
    refine a_put (pc := 92) (φ := 3100) X Z.1.2.1 Z.1.2.2.1 (gw X.1 X.2.1 q1032) (fun _ q => q) (by decide) rfl (fits_rf _ (Or.inl ⟨_, rfl⟩)) dJ25_nextNode_92 hf (fun h hf => ?_)
    refine a_ifnull (pc := 95) (tgt := 68) X dJ25_nextNode_95 rfl (fun c => ?_) (fun c => ?_)
    · have hf := ite_t c hf
      exact hrc68  _ _ (hl.sub [0, 1, 2] rfl) hf
    · have hf := ite_f c hf
      refine a_aload_n (pc := 98) X dJ25_nextNode_98 rfl hl 2 rfl ?_
      exact a_areturn X Z.2.2.1 (Or.inl ⟨_, rfl⟩) Z.2.2.2.1 dJ25_nextNode_99 hf
theorem w_J25_nextNode_l68 {r : Except Nat (Option Nat) × AH} (GA : GA l s0 a0 K lam) (Z : WZ l s0 a0 K p s m c cJ25_nextNode yJ25_nextNode.cls 3 b R 8 400 meth [] (some (.object "java/util/HashMap$Node")) yJ25_nextNode) (v0 : Option Nat) (v1 : Option Nat) (v2 : Option Nat)  : ∀ (n : Nat)  (h : AH) (ls : Array Slot), LV ls 3 [(0, vR v0), (1, vR v1), (2, vR v2)] → f_J25_nextNode_l68 K v0 v1 v2 n  h = some r → AW s0 K lam p l e R s m args below meth c (AQ s0 K lam below oR b r s) b h (F0 m 68 ls []) := by
  intro n
  induction n with
  | zero => intro  h ls hl hf; exact fl_no (h := h) hf
  | succ n ih => intro  h ls hl hf; exact w_J25_nextNode_b68 GA Z v0 v1 v2 (f_J25_nextNode_l68 K v0 v1 v2 n) ih hl hf
theorem np_J25_nextNode : npar yJ25_nextNode.desc 0 := by unfold npar; decide +kernel
theorem hy_J25_nextNode : yJ25_nextNode.cls ≠ "java/lang/invoke/MethodHandle" ∧ yJ25_nextNode.cls ≠ "java/lang/invoke/VarHandle" := by decide +kernel
theorem w_J25_nextNode (GA : GA l s0 a0 K lam) (v0 : Option Nat) : AMet l s0 K lam yJ25_nextNode (Cond.code yJ25_nextNode cJ25_nextNode (3 : Nat) (Option.some (ClassFile.FieldType.object "java/util/HashMap$Node"))) 8 400 [vR v0] oR (f_J25_nextNode K v0) := by
  refine AMet.of GA.1 (plainFor_of_name (by decide +kernel)) (Nat.le_of_ble_eq_true rfl) ?_
  intro b r hf p e s m args below meth c X hr hlk hnm hnd ht ls hl
  have Z : WZ l s0 a0 K p s m c cJ25_nextNode yJ25_nextNode.cls 3 b { frames := 8, cells := K 0 - aX b, slots := K 1 - aW b, locals := 400 } 8 400 meth [] (some (.object "java/util/HashMap$Node")) yJ25_nextNode := ⟨⟨X, GA.2.1, GA.2.2.1, rfl, rfl, Nat.le_refl _, Nat.le_refl _⟩, tab_nil ht, hr, hlk, hnm, hnd⟩
  unfold f_J25_nextNode at hf
  clear hr hlk hnm hnd ht
  refine a_aload_n (pc := 0) X dJ25_nextNode_0 rfl hl 0 rfl ?_
  refine a_get (pc := 1) (φ := 3100) pR_t X Z.1.2.1 (gw X.1 X.2.1 q1032) (fun _ q => q) (by decide) dJ25_nextNode_1 hf (fun x1 hf => ?_)
  refine a_astore_n (pc := 4) X dJ25_nextNode_4 rfl hl (by decide) (lv' := [(2, vR x1), (0, vR v0)]) rfl (fun ls hl => ?_)
  refine a_aload_n (pc := 5) X dJ25_nextNode_5 rfl hl 1 rfl ?_
  refine a_get (pc := 6) (φ := 3104) pR_t X Z.1.2.1 (gw X.1 X.2.1 q1036) (fun _ q => q) (by decide) dJ25_nextNode_6 hf (fun x6 hf => ?_)
  refine a_get (pc := 9) (φ := 2803) pI_t X Z.1.2.1 (gw X.1 X.2.1 q203) (fun _ q => q) (by decide) dJ25_nextNode_9 hf (fun x9 hf => ?_)
  refine a_aload_n (pc := 12) X dJ25_nextNode_12 rfl hl 1 rfl ?_
  refine a_get (pc := 13) (φ := 3102) pI_t X Z.1.2.1 (gw X.1 X.2.1 q1034) (fun _ q => q) (by decide) dJ25_nextNode_13 hf (fun x13 hf => ?_)
  refine AW.lift2 (fun _ _ _ _ k1 k2 => lv_icmp_eq (pc := 16) (tgt := 27) X.2.2.1 X.2.2.2.1 dJ25_nextNode_16 rfl k1 k2) (fun c => ?_) (fun c => ?_)
  · have hf := ite_t c hf
    refine a_aload_n (pc := 27) X dJ25_nextNode_27 rfl hl 0 rfl ?_
    refine a_ifnonnull (pc := 28) (tgt := 39) X dJ25_nextNode_28 rfl (fun c => ?_) (fun c => ?_)
    · have hf := ite_f c hf
      refine a_aload_n (pc := 39) X dJ25_nextNode_39 rfl hl 1 rfl ?_
      refine a_aload_n (pc := 40) X dJ25_nextNode_40 rfl hl 1 rfl ?_
      refine a_aload_n (pc := 41) X dJ25_nextNode_41 rfl hl 0 rfl ?_
      refine AW.lift (fun _ _ _ _ k => lv_dup_x1 (pc := 42) X.2.2.1 X.2.2.2.1 dJ25_nextNode_42 (cat_rf _) (cat_rf _) k) ?_
      refine a_put (pc := 43) (φ := 3101) X Z.1.2.1 Z.1.2.2.1 (gw X.1 X.2.1 q1033) (fun _ q => q) (by decide) rfl (fits_rf _ (Or.inl ⟨_, rfl⟩)) dJ25_nextNode_43 hf (fun h hf => ?_)
      refine a_get (pc := 46) (φ := 2903) pR_t X Z.1.2.1 (gw X.1 X.2.1 q1192) (fun _ q => q) (by decide) dJ25_nextNode_46 hf (fun x46 hf => ?_)
      refine AW.lift (fun _ _ _ _ k => lv_dup_x1 (pc := 49) X.2.2.1 X.2.2.2.1 dJ25_nextNode_49 (cat_rf _) (cat_rf _) k) ?_
      refine a_put (pc := 50) (φ := 3100) X Z.1.2.1 Z.1.2.2.1 (gw X.1 X.2.1 q1032) (fun _ q => q) (by decide) rfl (fits_rf _ (Or.inl ⟨_, rfl⟩)) dJ25_nextNode_50 hf (fun h hf => ?_)
      refine a_ifnonnull (pc := 53) (tgt := 98) X dJ25_nextNode_53 rfl (fun c => ?_) (fun c => ?_)
      · have hf := ite_f c hf
        refine a_aload_n (pc := 98) X dJ25_nextNode_98 rfl hl 0 rfl ?_
        exact a_areturn X Z.2.2.1 (Or.inl ⟨_, rfl⟩) Z.2.2.2.1 dJ25_nextNode_99 hf
      · have hf := ite_t c hf
        refine a_aload_n (pc := 56) X dJ25_nextNode_56 rfl hl 1 rfl ?_
        refine a_get (pc := 57) (φ := 3104) pR_t X Z.1.2.1 (gw X.1 X.2.1 q1036) (fun _ q => q) (by decide) dJ25_nextNode_57 hf (fun x57 hf => ?_)
        refine a_get (pc := 60) (φ := 2800) pR_t X Z.1.2.1 (gw X.1 X.2.1 q197) (fun _ q => q) (by decide) dJ25_nextNode_60 hf (fun x60 hf => ?_)
        refine AW.lift (fun _ _ _ _ k => lv_dup (pc := 63) X.2.2.1 X.2.2.2.1 dJ25_nextNode_63 (cat_rf _) k) ?_
        refine a_astore_n (pc := 64) X dJ25_nextNode_64 rfl hl (by decide) (lv' := [(1, vR x60), (2, vR x1), (0, vR v0)]) rfl (fun ls hl => ?_)
        refine a_ifnull (pc := 65) (tgt := 98) X dJ25_nextNode_65 rfl (fun c => ?_) (fun c => ?_)
        · have hf := ite_t c hf
          refine a_aload_n (pc := 98) X dJ25_nextNode_98 rfl hl 1 rfl ?_
          exact a_areturn X Z.2.2.1 (Or.inl ⟨_, rfl⟩) Z.2.2.2.1 dJ25_nextNode_99 hf
        · have hf := ite_f c hf
          exact w_J25_nextNode_l68 GA Z v0 x60 x1  FU  _ _ (hl.sub [2, 0, 1] rfl) hf
    · have hf := ite_t c hf
      refine a_new (pc := 31) (cK := 20) (n := 6) X Z.1.2.1 Z.1.2.2.1 Z.1.2.2.2.1 Z.1.2.2.2.2.1 ⟨by decide, by decide, by decide⟩ (gw X.1 X.2.1 q489) (gw X.1 X.2.1 q403) (gw X.1 X.2.1 q98) dJ25_nextNode_31 hf (fun x31 h hf => ?_)
      refine AW.lift (fun _ _ _ _ k => lv_dup (pc := 34) X.2.2.1 X.2.2.2.1 dJ25_nextNode_34 (cat_rf _) k) ?_
      refine a_callb (pc := 35) (rs := [vR (some x31)]) (avs := [vR (some x31)]) Z.1 (w_J16_init GA (some x31)) (Or.inl rfl) q453 q98 (by decide) (by decide) dJ25_nextNode_35 hl.1 (Nat.le_of_ble_eq_true rfl) hf (ct_I X q453 q490 q452 rfl hy_J16_init np_J16_init rfl dJ25_nextNode_35) (fun q h he hX => a_out (unc_of Z.2.1 rfl) Z.2.2.2.1 he hX) (fun _ h hf => ?kk35)
      refine AW.eq (g2 := F0 m 38 ls [va_rf (some x31)]) rfl ?_
      exact a_athrow X dJ25_nextNode_38 hf (fun q e he hX => a_out (unc_of Z.2.1 rfl) Z.2.2.2.1 he hX)
  · have hf := ite_f c hf
    exact fl_no hf
theorem np_J26_next_2 : npar yJ26_next_2.desc 0 := by unfold npar; decide +kernel
theorem hy_J26_next_2 : yJ26_next_2.cls ≠ "java/lang/invoke/MethodHandle" ∧ yJ26_next_2.cls ≠ "java/lang/invoke/VarHandle" := by decide +kernel
theorem w_J26_next_2 (GA : GA l s0 a0 K lam) (v0 : Option Nat) : AMet l s0 K lam yJ26_next_2 (Cond.code yJ26_next_2 cJ26_next_2 (1 : Nat) (Option.some (ClassFile.FieldType.object "java/util/Map$Entry"))) 9 422 [vR v0] oR (f_J26_next_2 K v0) := by
  refine AMet.of GA.1 (plainFor_of_name (by decide +kernel)) (Nat.le_of_ble_eq_true rfl) ?_
  intro b r hf p e s m args below meth c X hr hlk hnm hnd ht ls hl
  have Z : WZ l s0 a0 K p s m c cJ26_next_2 yJ26_next_2.cls 1 b { frames := 9, cells := K 0 - aX b, slots := K 1 - aW b, locals := 422 } 9 422 meth [] (some (.object "java/util/Map$Entry")) yJ26_next_2 := ⟨⟨X, GA.2.1, GA.2.2.1, rfl, rfl, Nat.le_refl _, Nat.le_refl _⟩, tab_nil ht, hr, hlk, hnm, hnd⟩
  unfold f_J26_next_2 at hf
  clear hr hlk hnm hnd ht
  refine a_aload_n (pc := 0) X dJ26_next_2_0 rfl hl 0 rfl ?_
  obtain ⟨a1, rfl, ⟨hk, hf⟩ | ⟨-, hf⟩⟩ := dv_some hf
  rotate_left
  · exact fl_none hf
  refine a_callb (pc := 1) (rs := []) (avs := [vR (some a1)]) Z.1 (w_J25_nextNode GA (some a1)) (Or.inl rfl) q488 q109 (by decide) (by decide) dJ26_next_2_1 hl.1 (Nat.le_of_ble_eq_true rfl) hf (ct_U (x := ({ cls := "java/util/HashMap$EntryIterator", name := "nextNode", desc := "()Ljava/util/HashMap$Node;" } : MethodName)) (owner := "java/util/HashMap$HashIterator") hk ⟨by decide, by decide⟩ X (Or.inl rfl) q488 q483 (q484) (va_Decl.ofD (gf (args := args) X.1 X.2.1 q485 rfl)) ⟨by decide, by decide⟩ q487 q486 (np_of (np_J25_nextNode)) rfl dJ26_next_2_1) (fun q h he hX => a_out (unc_of Z.2.1 rfl) Z.2.2.2.1 he hX) (fun x1 h hf => ?kk1)
  refine AW.eq (g2 := F0 m 4 ls [va_rf x1]) rfl ?_
  exact a_areturn X Z.2.2.1 (Or.inl ⟨_, rfl⟩) Z.2.2.2.1 dJ26_next_2_4 hf
theorem np_J26_next : npar yJ26_next.desc 0 := by unfold npar; decide +kernel
theorem hy_J26_next : yJ26_next.cls ≠ "java/lang/invoke/MethodHandle" ∧ yJ26_next.cls ≠ "java/lang/invoke/VarHandle" := by decide +kernel
theorem w_J26_next (GA : GA l s0 a0 K lam) (v0 : Option Nat) : AMet l s0 K lam yJ26_next (Cond.code yJ26_next cJ26_next (1 : Nat) (Option.some (ClassFile.FieldType.object "java/lang/Object"))) 10 442 [vR v0] oR (f_J26_next K v0) := by
  refine AMet.of GA.1 (plainFor_of_name (by decide +kernel)) (Nat.le_of_ble_eq_true rfl) ?_
  intro b r hf p e s m args below meth c X hr hlk hnm hnd ht ls hl
  have Z : WZ l s0 a0 K p s m c cJ26_next yJ26_next.cls 1 b { frames := 10, cells := K 0 - aX b, slots := K 1 - aW b, locals := 442 } 10 442 meth [] (some (.object "java/lang/Object")) yJ26_next := ⟨⟨X, GA.2.1, GA.2.2.1, rfl, rfl, Nat.le_refl _, Nat.le_refl _⟩, tab_nil ht, hr, hlk, hnm, hnd⟩
  unfold f_J26_next at hf
  clear hr hlk hnm hnd ht
  refine a_aload_n (pc := 0) X dJ26_next_0 rfl hl 0 rfl ?_
  obtain ⟨a1, rfl, ⟨hk, hf⟩ | ⟨-, hf⟩⟩ := dv_some hf
  rotate_left
  · exact fl_none hf
  refine a_callb (pc := 1) (rs := []) (avs := [vR (some a1)]) Z.1 (w_J26_next_2 GA (some a1)) (Or.inl rfl) q482 q110 (by decide) (by decide) dJ26_next_1 hl.1 (Nat.le_of_ble_eq_true rfl) hf (ct_V hk ⟨by decide, by decide⟩ X (Or.inl rfl) q482 q479 q480 q481 hy_J26_next_2 np_J26_next_2 rfl dJ26_next_1) (fun q h he hX => a_out (unc_of Z.2.1 rfl) Z.2.2.2.1 he hX) (fun x1 h hf => ?kk1)
  refine AW.eq (g2 := F0 m 4 ls [va_rf x1]) rfl ?_
  exact a_areturn X Z.2.2.1 (Or.inl ⟨_, rfl⟩) Z.2.2.2.1 dJ26_next_4 hf
theorem np_J29_getKey : npar yJ29_getKey.desc 0 := by unfold npar; decide +kernel
theorem hy_J29_getKey : yJ29_getKey.cls ≠ "java/lang/invoke/MethodHandle" ∧ yJ29_getKey.cls ≠ "java/lang/invoke/VarHandle" := by decide +kernel
theorem w_J29_getKey (GA : GA l s0 a0 K lam) (v0 : Option Nat) : AMet l s0 K lam yJ29_getKey (Cond.code yJ29_getKey cJ29_getKey (1 : Nat) (Option.some (ClassFile.FieldType.object "java/lang/Object"))) 0 0 [vR v0] oR (f_J29_getKey K v0) := by
  refine AMet.of GA.1 (plainFor_of_name (by decide +kernel)) (Nat.le_of_ble_eq_true rfl) ?_
  intro b r hf p e s m args below meth c X hr hlk hnm hnd ht ls hl
  have Z : WZ l s0 a0 K p s m c cJ29_getKey yJ29_getKey.cls 1 b { frames := 0, cells := K 0 - aX b, slots := K 1 - aW b, locals := 0 } 0 0 meth [] (some (.object "java/lang/Object")) yJ29_getKey := ⟨⟨X, GA.2.1, GA.2.2.1, rfl, rfl, Nat.le_refl _, Nat.le_refl _⟩, tab_nil ht, hr, hlk, hnm, hnd⟩
  unfold f_J29_getKey at hf
  clear hr hlk hnm hnd ht
  refine a_aload_n (pc := 0) X dJ29_getKey_0 rfl hl 0 rfl ?_
  refine a_get (pc := 1) (φ := 2901) pR_t X Z.1.2.1 (gw X.1 X.2.1 q1185) (fun _ q => q) (by decide) dJ29_getKey_1 hf (fun x1 hf => ?_)
  exact a_areturn X Z.2.2.1 (Or.inl ⟨_, rfl⟩) Z.2.2.2.1 dJ29_getKey_4 hf
theorem np_J29_getValue : npar yJ29_getValue.desc 0 := by unfold npar; decide +kernel
theorem hy_J29_getValue : yJ29_getValue.cls ≠ "java/lang/invoke/MethodHandle" ∧ yJ29_getValue.cls ≠ "java/lang/invoke/VarHandle" := by decide +kernel
theorem w_J29_getValue (GA : GA l s0 a0 K lam) (v0 : Option Nat) : AMet l s0 K lam yJ29_getValue (Cond.code yJ29_getValue cJ29_getValue (1 : Nat) (Option.some (ClassFile.FieldType.object "java/lang/Object"))) 0 0 [vR v0] oR (f_J29_getValue K v0) := by
  refine AMet.of GA.1 (plainFor_of_name (by decide +kernel)) (Nat.le_of_ble_eq_true rfl) ?_
  intro b r hf p e s m args below meth c X hr hlk hnm hnd ht ls hl
  have Z : WZ l s0 a0 K p s m c cJ29_getValue yJ29_getValue.cls 1 b { frames := 0, cells := K 0 - aX b, slots := K 1 - aW b, locals := 0 } 0 0 meth [] (some (.object "java/lang/Object")) yJ29_getValue := ⟨⟨X, GA.2.1, GA.2.2.1, rfl, rfl, Nat.le_refl _, Nat.le_refl _⟩, tab_nil ht, hr, hlk, hnm, hnd⟩
  unfold f_J29_getValue at hf
  clear hr hlk hnm hnd ht
  refine a_aload_n (pc := 0) X dJ29_getValue_0 rfl hl 0 rfl ?_
  refine a_get (pc := 1) (φ := 2902) pR_t X Z.1.2.1 (gw X.1 X.2.1 q1189) (fun _ q => q) (by decide) dJ29_getValue_1 hf (fun x1 hf => ?_)
  exact a_areturn X Z.2.2.1 (Or.inl ⟨_, rfl⟩) Z.2.2.2.1 dJ29_getValue_4 hf
theorem np_X10_hashCode : npar yX10_hashCode.desc 0 := by unfold npar; decide +kernel
theorem hy_X10_hashCode : yX10_hashCode.cls ≠ "java/lang/invoke/MethodHandle" ∧ yX10_hashCode.cls ≠ "java/lang/invoke/VarHandle" := by decide +kernel
theorem w_X10_hashCode (GA : GA l s0 a0 K lam) (v0 : Option Nat) : AMet l s0 K lam yX10_hashCode (Cond.code yX10_hashCode cX10_hashCode (1 : Nat) (Option.some ClassFile.FieldType.int)) 0 0 [vR v0] oI (f_X10_hashCode K v0) := by
  refine AMet.of GA.1 (plainFor_of_name (by decide +kernel)) (Nat.le_of_ble_eq_true rfl) ?_
  intro b r hf p e s m args below meth c X hr hlk hnm hnd ht ls hl
  have Z : WZ l s0 a0 K p s m c cX10_hashCode yX10_hashCode.cls 1 b { frames := 0, cells := K 0 - aX b, slots := K 1 - aW b, locals := 0 } 0 0 meth [] (some (.int)) yX10_hashCode := ⟨⟨X, GA.2.1, GA.2.2.1, rfl, rfl, Nat.le_refl _, Nat.le_refl _⟩, tab_nil ht, hr, hlk, hnm, hnd⟩
  unfold f_X10_hashCode at hf
  clear hr hlk hnm hnd ht
  refine AW.lift (fun _ _ _ _ k => lv_bipush (pc := 0) (v := (7 : Int32)) X.2.2.1 X.2.2.2.1 dX10_hashCode_0 rfl k) ?_
  refine a_aload_n (pc := 2) X dX10_hashCode_2 rfl hl 0 rfl ?_
  refine a_get (pc := 3) (φ := 800) pI_t X Z.1.2.1 (gw X.1 X.2.1 q2234) (fun _ q => q) (by decide) dX10_hashCode_3 hf (fun x3 hf => ?_)
  refine AW.lift (fun _ _ _ _ k => lv_imul (pc := 6) X.2.2.1 X.2.2.2.1 dX10_hashCode_6 k) ?_
  refine a_aload_n (pc := 7) X dX10_hashCode_7 rfl hl 0 rfl ?_
  refine a_get (pc := 8) (φ := 801) pI_t X Z.1.2.1 (gw X.1 X.2.1 q2236) (fun _ q => q) (by decide) dX10_hashCode_8 hf (fun x8 hf => ?_)
  refine AW.lift (fun _ _ _ _ k => lv_iadd (pc := 11) X.2.2.1 X.2.2.2.1 dX10_hashCode_11 k) ?_
  exact a_ireturn X Z.2.2.1 Z.2.2.2.1 dX10_hashCode_12 hf
end WK
