section WK
variable {l : Launch} {s0 : State} {a0 : Array Value} {K : Nat → Nat} {lam : Nat → ClassId}
variable {p : Program} {e : Env} {R : Room} {s : State} {m : MethodId} {args : Array Value} {below : List Frame} {meth : Method} {c : Code} {b : AH}
theorem np_J4_hash : npar yJ4_hash.desc 1 := by unfold npar; decide +kernel
theorem hy_J4_hash : yJ4_hash.cls ≠ "java/lang/invoke/MethodHandle" ∧ yJ4_hash.cls ≠ "java/lang/invoke/VarHandle" := by decide +kernel
theorem w_J4_hash (GA : GA l s0 a0 K lam) (v0 : Option Nat) : AMet l s0 K lam yJ4_hash (Cond.code yJ4_hash cJ4_hash (2 : Nat) (Option.some ClassFile.FieldType.int)) 1 20 [vR v0] oI (f_J4_hash K v0) := by
  refine AMet.of GA.1 (plainFor_of_name (by decide +kernel)) (Nat.le_of_ble_eq_true rfl) ?_
  intro b r hf p e s m args below meth c X hr hlk hnm hnd ht ls hl
  have Z : WZ l s0 a0 K p s m c cJ4_hash yJ4_hash.cls 2 b { frames := 1, cells := K 0 - aX b, slots := K 1 - aW b, locals := 20 } 1 20 meth [] (some (.int)) yJ4_hash := ⟨⟨X, GA.2.1, GA.2.2.1, rfl, rfl, Nat.le_refl _, Nat.le_refl _⟩, tab_nil ht, hr, hlk, hnm, hnd⟩
  unfold f_J4_hash at hf
  clear hr hlk hnm hnd ht
  refine a_aload_n (pc := 0) X dJ4_hash_0 rfl hl 0 rfl ?_
  refine a_ifnonnull (pc := 1) (tgt := 8) X dJ4_hash_1 rfl (fun c => ?_) (fun c => ?_)
  · have hf := ite_f c hf
    refine a_aload_n (pc := 8) X dJ4_hash_8 rfl hl 0 rfl ?_
    obtain ⟨a9, rfl, ⟨hk, hf⟩ | ⟨-, hf⟩⟩ := dv_some hf
    rotate_left
    · exact fl_none hf
    refine a_callb (pc := 9) (rs := []) (avs := [vR (some a9)]) Z.1 (w_X10_hashCode GA (some a9)) (Or.inl rfl) q1507 q126 (by decide) (by decide) dJ4_hash_9 hl.1 (Nat.le_of_ble_eq_true rfl) hf (ct_U (x := ({ cls := "java/lang/Object", name := "hashCode", desc := "()I" } : MethodName)) (owner := "java/lang/Object") hk ⟨by decide, by decide⟩ X (Or.inl rfl) q1507 q1491 (q1493) (va_Decl.ofD (gf (args := args) X.1 X.2.1 q1490 rfl)) ⟨by decide, by decide⟩ q1506 q1505 (np_of (np_X10_hashCode)) rfl dJ4_hash_9) (fun q h he hX => a_out (unc_of Z.2.1 rfl) Z.2.2.2.1 he hX) (fun x9 h hf => ?kk9)
    refine AW.eq (g2 := F0 m 12 ls [.int x9]) rfl ?_
    refine AW.lift (fun _ _ _ _ k => lv_dup (pc := 12) X.2.2.1 X.2.2.2.1 dJ4_hash_12 rfl k) ?_
    refine a_istore_n (pc := 13) X dJ4_hash_13 rfl hl (by decide) (lv' := [(1, vI x9), (0, vR (some a9))]) rfl (fun ls hl => ?_)
    refine a_iload_n (pc := 14) X dJ4_hash_14 rfl hl 0 rfl ?_
    refine AW.lift (fun _ _ _ _ k => lv_bipush (pc := 15) (v := (16 : Int32)) X.2.2.1 X.2.2.2.1 dJ4_hash_15 rfl k) ?_
    refine AW.lift (fun _ _ _ _ k => lv_iushr (pc := 17) X.2.2.1 X.2.2.2.1 dJ4_hash_17 rfl k) ?_
    refine AW.lift (fun _ _ _ _ k => lv_ixor (pc := 18) X.2.2.1 X.2.2.2.1 dJ4_hash_18 k) ?_
    exact a_ireturn X Z.2.2.1 Z.2.2.2.1 dJ4_hash_19 hf
  · have hf := ite_t c hf
    refine AW.lift (fun _ _ _ _ k => lv_iconst (pc := 4) (v := (0 : Int32)) X.2.2.1 X.2.2.2.1 dJ4_hash_4 rfl k) ?_
    refine AW.lift (fun _ _ _ _ k => lv_goto (pc := 5) (tgt := 19) X.2.2.1 X.2.2.2.1 dJ4_hash_5 rfl k) ?_
    exact a_ireturn X Z.2.2.1 Z.2.2.2.1 dJ4_hash_19 hf
theorem np_J29_init : npar yJ29_init.desc 4 := by unfold npar; decide +kernel
theorem hy_J29_init : yJ29_init.cls ≠ "java/lang/invoke/MethodHandle" ∧ yJ29_init.cls ≠ "java/lang/invoke/VarHandle" := by decide +kernel
theorem w_J29_init (GA : GA l s0 a0 K lam) (v0 : Option Nat) (v1 : Int32) (v2 : Option Nat) (v3 : Option Nat) (v4 : Option Nat) : AMet l s0 K lam yJ29_init (Cond.code yJ29_init cJ29_init (5 : Nat) (Option.none : Option ClassFile.FieldType)) 1 20 [vR v0, vI v1, vR v2, vR v3, vR v4] oV (f_J29_init K v0 v1 v2 v3 v4) := by
  refine AMet.of GA.1 (plainFor_of_name (by decide +kernel)) (Nat.le_of_ble_eq_true rfl) ?_
  intro b r hf p e s m args below meth c X hr hlk hnm hnd ht ls hl
  have Z : WZ l s0 a0 K p s m c cJ29_init yJ29_init.cls 5 b { frames := 1, cells := K 0 - aX b, slots := K 1 - aW b, locals := 20 } 1 20 meth [] none yJ29_init := ⟨⟨X, GA.2.1, GA.2.2.1, rfl, rfl, Nat.le_refl _, Nat.le_refl _⟩, tab_nil ht, hr, hlk, hnm, hnd⟩
  unfold f_J29_init at hf
  clear hr hlk hnm hnd ht
  refine a_aload_n (pc := 0) X dJ29_init_0 rfl hl 0 rfl ?_
  obtain ⟨a1, rfl, hf⟩ := nz_some hf
  refine a_objInit (pc := 1) (rs := []) Z.1 q1180 q144 q145 (by decide) (by decide) hl.1 (Nat.le_of_ble_eq_true rfl) dJ29_init_1 ?_
  refine AW.eq (g2 := F0 m 4 ls []) rfl ?_
  refine a_aload_n (pc := 4) X dJ29_init_4 rfl hl 0 rfl ?_
  refine a_iload_n (pc := 5) X dJ29_init_5 rfl hl 1 rfl ?_
  refine a_putF (pc := 6) (φ := 2900) X Z.1.2.1 Z.1.2.2.1 (gw X.1 X.2.1 q1181) (fun _ q => q) (by decide) rfl Z.2.2.2.2.1 rfl rfl dJ29_init_6 hf (fun h hf => ?_)
  refine a_aload_n (pc := 9) X dJ29_init_9 rfl hl 0 rfl ?_
  refine a_aload_n (pc := 10) X dJ29_init_10 rfl hl 2 rfl ?_
  refine a_putF (pc := 11) (φ := 2901) X Z.1.2.1 Z.1.2.2.1 (gw X.1 X.2.1 q1185) (fun _ q => q) (by decide) rfl Z.2.2.2.2.1 rfl (fits_rf _ (Or.inl ⟨_, rfl⟩)) dJ29_init_11 hf (fun h hf => ?_)
  refine a_aload_n (pc := 14) X dJ29_init_14 rfl hl 0 rfl ?_
  refine a_aload_n (pc := 15) X dJ29_init_15 rfl hl 3 rfl ?_
  refine a_put (pc := 16) (φ := 2902) X Z.1.2.1 Z.1.2.2.1 (gw X.1 X.2.1 q1189) (fun _ q => q) (by decide) rfl (fits_rf _ (Or.inl ⟨_, rfl⟩)) dJ29_init_16 hf (fun h hf => ?_)
  refine a_aload_n (pc := 19) X dJ29_init_19 rfl hl 0 rfl ?_
  refine a_aload (pc := 20) X dJ29_init_20 hl 4 rfl ?_
  refine a_put (pc := 22) (φ := 2903) X Z.1.2.1 Z.1.2.2.1 (gw X.1 X.2.1 q1191) (fun _ q => q) (by decide) rfl (fits_rf _ (Or.inl ⟨_, rfl⟩)) dJ29_init_22 hf (fun h hf => ?_)
  exact a_return X Z.2.2.1 Z.2.2.2.1 dJ29_init_25 hf
theorem np_J4_newNode : npar yJ4_newNode.desc 4 := by unfold npar; decide +kernel
theorem hy_J4_newNode : yJ4_newNode.cls ≠ "java/lang/invoke/MethodHandle" ∧ yJ4_newNode.cls ≠ "java/lang/invoke/VarHandle" := by decide +kernel
theorem w_J4_newNode (GA : GA l s0 a0 K lam) (v0 : Option Nat) (v1 : Int32) (v2 : Option Nat) (v3 : Option Nat) (v4 : Option Nat) : AMet l s0 K lam yJ4_newNode (Cond.code yJ4_newNode cJ4_newNode (5 : Nat) (Option.some (ClassFile.FieldType.object "java/util/HashMap$Node"))) 2 44 [vR v0, vI v1, vR v2, vR v3, vR v4] oR (f_J4_newNode K v0 v1 v2 v3 v4) := by
  refine AMet.of GA.1 (plainFor_of_name (by decide +kernel)) (Nat.le_of_ble_eq_true rfl) ?_
  intro b r hf p e s m args below meth c X hr hlk hnm hnd ht ls hl
  have Z : WZ l s0 a0 K p s m c cJ4_newNode yJ4_newNode.cls 5 b { frames := 2, cells := K 0 - aX b, slots := K 1 - aW b, locals := 44 } 2 44 meth [] (some (.object "java/util/HashMap$Node")) yJ4_newNode := ⟨⟨X, GA.2.1, GA.2.2.1, rfl, rfl, Nat.le_refl _, Nat.le_refl _⟩, tab_nil ht, hr, hlk, hnm, hnd⟩
  unfold f_J4_newNode at hf
  clear hr hlk hnm hnd ht
  refine a_new (pc := 0) (cK := 29) (n := 4) X Z.1.2.1 Z.1.2.2.1 Z.1.2.2.2.1 Z.1.2.2.2.2.1 ⟨by decide, by decide, by decide⟩ (gw X.1 X.2.1 q1160) (gw X.1 X.2.1 q1176) (gw X.1 X.2.1 q114) dJ4_newNode_0 hf (fun x0 h hf => ?_)
  refine AW.lift (fun _ _ _ _ k => lv_dup (pc := 3) X.2.2.1 X.2.2.2.1 dJ4_newNode_3 (cat_rf _) k) ?_
  refine a_iload_n (pc := 4) X dJ4_newNode_4 rfl hl 1 rfl ?_
  refine a_aload_n (pc := 5) X dJ4_newNode_5 rfl hl 2 rfl ?_
  refine a_aload_n (pc := 6) X dJ4_newNode_6 rfl hl 3 rfl ?_
  refine a_aload (pc := 7) X dJ4_newNode_7 hl 4 rfl ?_
  refine a_callb (pc := 9) (rs := [vR (some x0)]) (avs := [vR (some x0), vI v1, vR v2, vR v3, vR v4]) Z.1 (w_J29_init GA (some x0) v1 v2 v3 v4) (Or.inl rfl) q1179 q114 (by decide) (by decide) dJ4_newNode_9 hl.1 (Nat.le_of_ble_eq_true rfl) hf (ct_I X q1179 q1177 q1178 rfl hy_J29_init np_J29_init rfl dJ4_newNode_9) (fun q h he hX => a_out (unc_of Z.2.1 rfl) Z.2.2.2.1 he hX) (fun _ h hf => ?kk9)
  refine AW.eq (g2 := F0 m 12 ls [va_rf (some x0)]) rfl ?_
  exact a_areturn X Z.2.2.1 (Or.inl ⟨_, rfl⟩) Z.2.2.2.1 dJ4_newNode_12 hf
theorem np_X10_equals : npar yX10_equals.desc 1 := by unfold npar; decide +kernel
theorem hy_X10_equals : yX10_equals.cls ≠ "java/lang/invoke/MethodHandle" ∧ yX10_equals.cls ≠ "java/lang/invoke/VarHandle" := by decide +kernel
theorem w_X10_equals (GA : GA l s0 a0 K lam) (v0 : Option Nat) (v1 : Option Nat) : AMet l s0 K lam yX10_equals (Cond.code yX10_equals cX10_equals (3 : Nat) (Option.some ClassFile.FieldType.boolean)) 0 0 [vR v0, vR v1] oI (f_X10_equals K v0 v1) := by
  refine AMet.of GA.1 (plainFor_of_name (by decide +kernel)) (Nat.le_of_ble_eq_true rfl) ?_
  intro b r hf p e s m args below meth c X hr hlk hnm hnd ht ls hl
  have Z : WZ l s0 a0 K p s m c cX10_equals yX10_equals.cls 3 b { frames := 0, cells := K 0 - aX b, slots := K 1 - aW b, locals := 0 } 0 0 meth [] (some (.boolean)) yX10_equals := ⟨⟨X, GA.2.1, GA.2.2.1, rfl, rfl, Nat.le_refl _, Nat.le_refl _⟩, tab_nil ht, hr, hlk, hnm, hnd⟩
  unfold f_X10_equals at hf
  clear hr hlk hnm hnd ht
  refine a_aload_n (pc := 0) X dX10_equals_0 rfl hl 1 rfl ?_
  refine a_instanceof (pc := 1) X (gw X.1 X.2.1 q1612) (cs_JumpHall_Socks GA) (nc__JumpHall_Socks GA) dX10_equals_1 hf (fun x1 hf => ?_)
  refine AW.lift2 (fun _ _ _ _ k1 k2 => lv_if_eq (pc := 4) (tgt := 38) X.2.2.1 X.2.2.2.1 dX10_equals_4 rfl k1 k2) (fun c => ?_) (fun c => ?_)
  · have hf := ite_t c hf
    refine AW.lift (fun _ _ _ _ k => lv_iconst (pc := 38) (v := (0 : Int32)) X.2.2.1 X.2.2.2.1 dX10_equals_38 rfl k) ?_
    exact a_zreturn X Z.2.2.1 rfl Z.2.2.2.1 dX10_equals_39 hf
  · have hf := ite_f c hf
    refine a_aload_n (pc := 7) X dX10_equals_7 rfl hl 1 rfl ?_
    refine a_checkcast (pc := 8) X (gw X.1 X.2.1 q1612) (cs_JumpHall_Socks GA) dX10_equals_8 hf (fun hf => ?_)
    refine a_astore_n (pc := 11) X dX10_equals_11 rfl hl (by decide) (lv' := [(2, vR v1), (0, vR v0), (1, vR v1)]) rfl (fun ls hl => ?_)
    refine a_aload_n (pc := 12) X dX10_equals_12 rfl hl 0 rfl ?_
    refine a_get (pc := 13) (φ := 800) pI_t X Z.1.2.1 (gw X.1 X.2.1 q2234) (fun _ q => q) (by decide) dX10_equals_13 hf (fun x13 hf => ?_)
    refine a_aload_n (pc := 16) X dX10_equals_16 rfl hl 1 rfl ?_
    refine a_get (pc := 17) (φ := 800) pI_t X Z.1.2.1 (gw X.1 X.2.1 q2234) (fun _ q => q) (by decide) dX10_equals_17 hf (fun x17 hf => ?_)
    refine AW.lift2 (fun _ _ _ _ k1 k2 => lv_icmp_ne (pc := 20) (tgt := 38) X.2.2.1 X.2.2.2.1 dX10_equals_20 rfl k2 k1) (fun c => ?_) (fun c => ?_)
    · have hf := ite_t c hf
      refine a_aload_n (pc := 23) X dX10_equals_23 rfl hl 0 rfl ?_
      refine a_get (pc := 24) (φ := 801) pI_t X Z.1.2.1 (gw X.1 X.2.1 q2236) (fun _ q => q) (by decide) dX10_equals_24 hf (fun x24 hf => ?_)
      refine a_aload_n (pc := 27) X dX10_equals_27 rfl hl 1 rfl ?_
      refine a_get (pc := 28) (φ := 801) pI_t X Z.1.2.1 (gw X.1 X.2.1 q2236) (fun _ q => q) (by decide) dX10_equals_28 hf (fun x28 hf => ?_)
      refine AW.lift2 (fun _ _ _ _ k1 k2 => lv_icmp_ne (pc := 31) (tgt := 38) X.2.2.1 X.2.2.2.1 dX10_equals_31 rfl k2 k1) (fun c => ?_) (fun c => ?_)
      · have hf := ite_t c hf
        refine AW.lift (fun _ _ _ _ k => lv_iconst (pc := 34) (v := (1 : Int32)) X.2.2.1 X.2.2.2.1 dX10_equals_34 rfl k) ?_
        refine AW.lift (fun _ _ _ _ k => lv_goto (pc := 35) (tgt := 39) X.2.2.1 X.2.2.2.1 dX10_equals_35 rfl k) ?_
        exact a_zreturn X Z.2.2.1 rfl Z.2.2.2.1 dX10_equals_39 hf
      · have hf := ite_f c hf
        refine AW.lift (fun _ _ _ _ k => lv_iconst (pc := 38) (v := (0 : Int32)) X.2.2.1 X.2.2.2.1 dX10_equals_38 rfl k) ?_
        exact a_zreturn X Z.2.2.1 rfl Z.2.2.2.1 dX10_equals_39 hf
    · have hf := ite_f c hf
      refine AW.lift (fun _ _ _ _ k => lv_iconst (pc := 38) (v := (0 : Int32)) X.2.2.1 X.2.2.2.1 dX10_equals_38 rfl k) ?_
      exact a_zreturn X Z.2.2.1 rfl Z.2.2.2.1 dX10_equals_39 hf
theorem np_J23_intValue : npar yJ23_intValue.desc 0 := by unfold npar; decide +kernel
theorem hy_J23_intValue : yJ23_intValue.cls ≠ "java/lang/invoke/MethodHandle" ∧ yJ23_intValue.cls ≠ "java/lang/invoke/VarHandle" := by decide +kernel
theorem w_J23_intValue (GA : GA l s0 a0 K lam) (v0 : Option Nat) : AMet l s0 K lam yJ23_intValue (Cond.code yJ23_intValue cJ23_intValue (1 : Nat) (Option.some ClassFile.FieldType.int)) 0 0 [vR v0] oI (f_J23_intValue K v0) := by
  refine AMet.of GA.1 (plainFor_of_name (by decide +kernel)) (Nat.le_of_ble_eq_true rfl) ?_
  intro b r hf p e s m args below meth c X hr hlk hnm hnd ht ls hl
  have Z : WZ l s0 a0 K p s m c cJ23_intValue yJ23_intValue.cls 1 b { frames := 0, cells := K 0 - aX b, slots := K 1 - aW b, locals := 0 } 0 0 meth [] (some (.int)) yJ23_intValue := ⟨⟨X, GA.2.1, GA.2.2.1, rfl, rfl, Nat.le_refl _, Nat.le_refl _⟩, tab_nil ht, hr, hlk, hnm, hnd⟩
  unfold f_J23_intValue at hf
  clear hr hlk hnm hnd ht
  refine a_aload_n (pc := 0) X dJ23_intValue_0 rfl hl 0 rfl ?_
  refine a_get (pc := 1) (φ := 3300) pI_t X Z.1.2.1 (gw X.1 X.2.1 q1931) (fun _ q => q) (by decide) dJ23_intValue_1 hf (fun x1 hf => ?_)
  exact a_ireturn X Z.2.2.1 Z.2.2.2.1 dJ23_intValue_4 hf
theorem np_J23_equals : npar yJ23_equals.desc 1 := by unfold npar; decide +kernel
theorem hy_J23_equals : yJ23_equals.cls ≠ "java/lang/invoke/MethodHandle" ∧ yJ23_equals.cls ≠ "java/lang/invoke/VarHandle" := by decide +kernel
theorem w_J23_equals (GA : GA l s0 a0 K lam) (v0 : Option Nat) (v1 : Option Nat) : AMet l s0 K lam yJ23_equals (Cond.code yJ23_equals cJ23_equals (2 : Nat) (Option.some ClassFile.FieldType.boolean)) 1 20 [vR v0, vR v1] oI (f_J23_equals K v0 v1) := by
  refine AMet.of GA.1 (plainFor_of_name (by decide +kernel)) (Nat.le_of_ble_eq_true rfl) ?_
  intro b r hf p e s m args below meth c X hr hlk hnm hnd ht ls hl
  have Z : WZ l s0 a0 K p s m c cJ23_equals yJ23_equals.cls 2 b { frames := 1, cells := K 0 - aX b, slots := K 1 - aW b, locals := 20 } 1 20 meth [] (some (.boolean)) yJ23_equals := ⟨⟨X, GA.2.1, GA.2.2.1, rfl, rfl, Nat.le_refl _, Nat.le_refl _⟩, tab_nil ht, hr, hlk, hnm, hnd⟩
  unfold f_J23_equals at hf
  clear hr hlk hnm hnd ht
  refine a_aload_n (pc := 0) X dJ23_equals_0 rfl hl 1 rfl ?_
  refine a_instanceof (pc := 1) X (gw X.1 X.2.1 q1230) (cs_java_lang_Integer GA) (nc__java_lang_Integer GA) dJ23_equals_1 hf (fun x1 hf => ?_)
  refine AW.lift2 (fun _ _ _ _ k1 k2 => lv_if_eq (pc := 4) (tgt := 27) X.2.2.1 X.2.2.2.1 dJ23_equals_4 rfl k1 k2) (fun c => ?_) (fun c => ?_)
  · have hf := ite_t c hf
    refine AW.lift (fun _ _ _ _ k => lv_iconst (pc := 27) (v := (0 : Int32)) X.2.2.1 X.2.2.2.1 dJ23_equals_27 rfl k) ?_
    exact a_zreturn X Z.2.2.1 rfl Z.2.2.2.1 dJ23_equals_28 hf
  · have hf := ite_f c hf
    refine a_aload_n (pc := 7) X dJ23_equals_7 rfl hl 0 rfl ?_
    refine a_get (pc := 8) (φ := 3300) pI_t X Z.1.2.1 (gw X.1 X.2.1 q1931) (fun _ q => q) (by decide) dJ23_equals_8 hf (fun x8 hf => ?_)
    refine a_aload_n (pc := 11) X dJ23_equals_11 rfl hl 1 rfl ?_
    refine a_checkcast (pc := 12) X (gw X.1 X.2.1 q1230) (cs_java_lang_Integer GA) dJ23_equals_12 hf (fun hf => ?_)
    obtain ⟨a15, rfl, ⟨hk, hf⟩ | ⟨-, hf⟩⟩ := dv_some hf
    rotate_left
    · exact fl_none hf
    refine a_callb (pc := 15) (rs := [vI x8]) (avs := [vR (some a15)]) Z.1 (w_J23_intValue GA (some a15)) (Or.inl rfl) q1625 q105 (by decide) (by decide) dJ23_equals_15 hl.1 (Nat.le_of_ble_eq_true rfl) hf (ct_V hk ⟨by decide, by decide⟩ X (Or.inl rfl) q1625 q1622 q1623 q1624 hy_J23_intValue np_J23_intValue rfl dJ23_equals_15) (fun q h he hX => a_out (unc_of Z.2.1 rfl) Z.2.2.2.1 he hX) (fun x15 h hf => ?kk15)
    refine AW.eq (g2 := F0 m 18 ls [.int x15, .int x8]) rfl ?_
    refine AW.lift2 (fun _ _ _ _ k1 k2 => lv_icmp_ne (pc := 18) (tgt := 25) X.2.2.1 X.2.2.2.1 dJ23_equals_18 rfl k2 k1) (fun c => ?_) (fun c => ?_)
    · have hf := ite_t c hf
      refine AW.lift (fun _ _ _ _ k => lv_iconst (pc := 21) (v := (1 : Int32)) X.2.2.1 X.2.2.2.1 dJ23_equals_21 rfl k) ?_
      refine AW.lift (fun _ _ _ _ k => lv_goto (pc := 22) (tgt := 26) X.2.2.1 X.2.2.2.1 dJ23_equals_22 rfl k) ?_
      exact a_zreturn X Z.2.2.1 rfl Z.2.2.2.1 dJ23_equals_26 hf
    · have hf := ite_f c hf
      refine AW.lift (fun _ _ _ _ k => lv_iconst (pc := 25) (v := (0 : Int32)) X.2.2.1 X.2.2.2.1 dJ23_equals_25 rfl k) ?_
      exact a_zreturn X Z.2.2.1 rfl Z.2.2.2.1 dJ23_equals_26 hf
theorem w_J21_equals_b9 {r : Except Nat (Int32) × AH} (GA : GA l s0 a0 K lam) (Z : WZ l s0 a0 K p s m c cJ21_equals yJ21_equals.cls 3 b R 0 0 meth [] (some (.boolean)) yJ21_equals) (v0 : Option Nat) (v1 : Option Nat) (v2 : Int32)  (rc9 : Int32 → AM (Int32)) (hrc9 : ∀ (v2 : Int32) (h : AH) (ls : Array Slot), LV ls 3 [(0, vR v0), (1, vR v1), (2, vI v2)] → rc9 v2 h = some r → AW s0 K lam p l e R s m args below meth c (AQ s0 K lam below oI b r s) b h (F0 m 9 ls [])) {h : AH} {ls : Array Slot} (hl : LV ls 3 [(0, vR v0), (1, vR v1), (2, vI v2)]) (hf : f_J21_equals_b9 K rc9 v0 v1 v2 h = some r) : AW s0 K lam p l e R s m args below meth c (AQ s0 K lam below oI b r s) b h (F0 m 9 ls []) := by
  unfold f_J21_equals_b9 at hf
  have X := Z.1.1
  refine a_iload_n (pc := 9) X dJ21_equals_9 rfl hl 2 rfl ?_
  refine a_aload_n (pc := 10) X dJ21_equals_10 rfl hl 0 rfl ?_
  refine a_arraylength (pc := 11) X dJ21_equals_11 hf (fun x11 hf => ?_)
  refine AW.lift2 (fun _ _ _ _ k1 k2 => lv_icmp_ge (pc := 12) (tgt := 32) X.2.2.1 X.2.2.2.1 dJ21_equals_12 rfl k1 k2) (fun c => ?_) (fun c => ?_)
  · have hf := ite_t c hf
    refine AW.lift (fun _ _ _ _ k => lv_iconst (pc := 32) (v := (1 : Int32)) X.2.2.1 X.2.2.2.1 dJ21_equals_32 rfl k) ?_
    exact a_zreturn X Z.2.2.1 rfl Z.2.2.2.1 dJ21_equals_33 hf
  · have hf := ite_f c hf
    refine a_aload_n (pc := 15) X dJ21_equals_15 rfl hl 0 rfl ?_
    refine a_iload_n (pc := 16) X dJ21_equals_16 rfl hl 2 rfl ?_
    refine a_baload (pc := 17) X dJ21_equals_17 hf (fun x17 hf => ?_)
    refine a_aload_n (pc := 18) X dJ21_equals_18 rfl hl 1 rfl ?_
    refine a_iload_n (pc := 19) X dJ21_equals_19 rfl hl 2 rfl ?_
    refine a_baload (pc := 20) X dJ21_equals_20 hf (fun x20 hf => ?_)
    refine AW.lift2 (fun _ _ _ _ k1 k2 => lv_icmp_eq (pc := 21) (tgt := 26) X.2.2.1 X.2.2.2.1 dJ21_equals_21 rfl k1 k2) (fun c => ?_) (fun c => ?_)
    · have hf := ite_t c hf
      refine a_iinc (pc := 26) (v := (v2 + (1 : Int32))) X dJ21_equals_26 hl (k := 2) rfl rfl (by decide) (lv' := [(2, vI (v2 + (1 : Int32))), (0, vR v0), (1, vR v1)]) rfl (fun ls hl => ?_)
      refine AW.lift (fun _ _ _ _ k => lv_goto (pc := 29) (tgt := 9) X.2.2.1 X.2.2.2.1 dJ21_equals_29 rfl k) ?_
      exact hrc9 (v2 + (1 : Int32)) _ _ (hl.sub [1, 2, 0] rfl) hf
    · have hf := ite_f c hf
      refine AW.lift (fun _ _ _ _ k => lv_iconst (pc := 24) (v := (0 : Int32)) X.2.2.1 X.2.2.2.1 dJ21_equals_24 rfl k) ?_
      exact a_zreturn X Z.2.2.1 rfl Z.2.2.2.1 dJ21_equals_25 hf
theorem w_J21_equals_l9 {r : Except Nat (Int32) × AH} (GA : GA l s0 a0 K lam) (Z : WZ l s0 a0 K p s m c cJ21_equals yJ21_equals.cls 3 b R 0 0 meth [] (some (.boolean)) yJ21_equals) (v0 : Option Nat) (v1 : Option Nat)  : ∀ (n : Nat) (v2 : Int32) (h : AH) (ls : Array Slot), LV ls 3 [(0, vR v0), (1, vR v1), (2, vI v2)] → f_J21_equals_l9 K v0 v1 n v2 h = some r → AW s0 K lam p l e R s m args below meth c (AQ s0 K lam below oI b r s) b h (F0 m 9 ls []) := by
  intro n
  induction n with
  | zero => intro v2 h ls hl hf; exact fl_no (h := h) hf
  | succ n ih => intro v2 h ls hl hf; exact w_J21_equals_b9 GA Z v0 v1 v2 (f_J21_equals_l9 K v0 v1 n) ih hl hf
theorem np_J21_equals : npar yJ21_equals.desc 2 := by unfold npar; decide +kernel
theorem hy_J21_equals : yJ21_equals.cls ≠ "java/lang/invoke/MethodHandle" ∧ yJ21_equals.cls ≠ "java/lang/invoke/VarHandle" := by decide +kernel
theorem w_J21_equals (GA : GA l s0 a0 K lam) (v0 : Option Nat) (v1 : Option Nat) : AMet l s0 K lam yJ21_equals (Cond.code yJ21_equals cJ21_equals (3 : Nat) (Option.some ClassFile.FieldType.boolean)) 0 0 [vR v0, vR v1] oI (f_J21_equals K v0 v1) := by
  refine AMet.of GA.1 (plainFor_of_name (by decide +kernel)) (Nat.le_of_ble_eq_true rfl) ?_
  intro b r hf p e s m args below meth c X hr hlk hnm hnd ht ls hl
  have Z : WZ l s0 a0 K p s m c cJ21_equals yJ21_equals.cls 3 b { frames := 0, cells := K 0 - aX b, slots := K 1 - aW b, locals := 0 } 0 0 meth [] (some (.boolean)) yJ21_equals := ⟨⟨X, GA.2.1, GA.2.2.1, rfl, rfl, Nat.le_refl _, Nat.le_refl _⟩, tab_nil ht, hr, hlk, hnm, hnd⟩
  unfold f_J21_equals at hf
  clear hr hlk hnm hnd ht
  refine a_aload_n (pc := 0) X dJ21_equals_0 rfl hl 0 rfl ?_
  refine a_arraylength (pc := 1) X dJ21_equals_1 hf (fun x1 hf => ?_)
  refine a_aload_n (pc := 2) X dJ21_equals_2 rfl hl 1 rfl ?_
  refine a_arraylength (pc := 3) X dJ21_equals_3 hf (fun x3 hf => ?_)
  refine AW.lift2 (fun _ _ _ _ k1 k2 => lv_icmp_ne (pc := 4) (tgt := 34) X.2.2.1 X.2.2.2.1 dJ21_equals_4 rfl k2 k1) (fun c => ?_) (fun c => ?_)
  · have hf := ite_t c hf
    refine AW.lift (fun _ _ _ _ k => lv_iconst (pc := 7) (v := (0 : Int32)) X.2.2.1 X.2.2.2.1 dJ21_equals_7 rfl k) ?_
    refine a_istore_n (pc := 8) X dJ21_equals_8 rfl hl (by decide) (lv' := [(2, vI (0 : Int32)), (0, vR v0), (1, vR v1)]) rfl (fun ls hl => ?_)
    exact w_J21_equals_l9 GA Z v0 v1  FU (0 : Int32) _ _ (hl.sub [1, 2, 0] rfl) hf
  · have hf := ite_f c hf
    refine AW.lift (fun _ _ _ _ k => lv_iconst (pc := 34) (v := (0 : Int32)) X.2.2.1 X.2.2.2.1 dJ21_equals_34 rfl k) ?_
    exact a_zreturn X Z.2.2.1 rfl Z.2.2.2.1 dJ21_equals_35 hf
theorem w_J7_equals_j36 {r : Except Nat (Int32) × AH} (GA : GA l s0 a0 K lam) (Z : WZ l s0 a0 K p s m c cJ7_equals yJ7_equals.cls 3 b R 1 22 meth [] (some (.boolean)) yJ7_equals) (v0 : Option Nat) (v2 : Option Nat)   {h : AH} {ls : Array Slot} (hl : LV ls 3 [(0, vR v0), (2, vR v2)]) (hf : f_J7_equals_j36 K v0 v2 h = some r) : AW s0 K lam p l e R s m args below meth c (AQ s0 K lam below oI b r s) b h (F0 m 36 ls []) := by
  unfold f_J7_equals_j36 at hf
  have X := Z.1.1
  refine a_aload_n (pc := 36) X dJ7_equals_36 rfl hl 0 rfl ?_
  refine a_get (pc := 37) (φ := 3400) pR_t X Z.1.2.1 (gw X.1 X.2.1 q775) (fun _ q => q) (by decide) dJ7_equals_37 hf (fun x37 hf => ?_)
  refine a_aload_n (pc := 40) X dJ7_equals_40 rfl hl 1 rfl ?_
  refine a_get (pc := 41) (φ := 3400) pR_t X Z.1.2.1 (gw X.1 X.2.1 q775) (fun _ q => q) (by decide) dJ7_equals_41 hf (fun x41 hf => ?_)
  refine a_callb (pc := 44) (rs := []) (avs := [vR x37, vR x41]) Z.1 (w_J21_equals GA x37 x41) (Or.inl rfl) q1631 q103 (by decide) (by decide) dJ7_equals_44 hl.1 (Nat.le_of_ble_eq_true rfl) hf (ct_S X (Or.inl rfl) q1631 q103 q1629 q1630 hy_J21_equals np_J21_equals rfl dJ7_equals_44) (fun q h he hX => a_out (unc_of Z.2.1 rfl) Z.2.2.2.1 he hX) (fun x44 h hf => ?kk44)
  refine AW.eq (g2 := F0 m 47 ls [.int x44]) rfl ?_
  refine AW.lift2 (fun _ _ _ _ k1 k2 => lv_if_eq (pc := 47) (tgt := 54) X.2.2.1 X.2.2.2.1 dJ7_equals_47 rfl k1 k2) (fun c => ?_) (fun c => ?_)
  · have hf := ite_t c hf
    refine AW.lift (fun _ _ _ _ k => lv_iconst (pc := 54) (v := (0 : Int32)) X.2.2.1 X.2.2.2.1 dJ7_equals_54 rfl k) ?_
    exact a_zreturn X Z.2.2.1 rfl Z.2.2.2.1 dJ7_equals_55 hf
  · have hf := ite_f c hf
    refine AW.lift (fun _ _ _ _ k => lv_iconst (pc := 50) (v := (1 : Int32)) X.2.2.1 X.2.2.2.1 dJ7_equals_50 rfl k) ?_
    refine AW.lift (fun _ _ _ _ k => lv_goto (pc := 51) (tgt := 55) X.2.2.1 X.2.2.2.1 dJ7_equals_51 rfl k) ?_
    exact a_zreturn X Z.2.2.1 rfl Z.2.2.2.1 dJ7_equals_55 hf
theorem np_J7_equals : npar yJ7_equals.desc 1 := by unfold npar; decide +kernel
theorem hy_J7_equals : yJ7_equals.cls ≠ "java/lang/invoke/MethodHandle" ∧ yJ7_equals.cls ≠ "java/lang/invoke/VarHandle" := by decide +kernel
theorem w_J7_equals (GA : GA l s0 a0 K lam) (v0 : Option Nat) (v1 : Option Nat) : AMet l s0 K lam yJ7_equals (Cond.code yJ7_equals cJ7_equals (3 : Nat) (Option.some ClassFile.FieldType.boolean)) 1 22 [vR v0, vR v1] oI (f_J7_equals K v0 v1) := by
  refine AMet.of GA.1 (plainFor_of_name (by decide +kernel)) (Nat.le_of_ble_eq_true rfl) ?_
  intro b r hf p e s m args below meth c X hr hlk hnm hnd ht ls hl
  have Z : WZ l s0 a0 K p s m c cJ7_equals yJ7_equals.cls 3 b { frames := 1, cells := K 0 - aX b, slots := K 1 - aW b, locals := 22 } 1 22 meth [] (some (.boolean)) yJ7_equals := ⟨⟨X, GA.2.1, GA.2.2.1, rfl, rfl, Nat.le_refl _, Nat.le_refl _⟩, tab_nil ht, hr, hlk, hnm, hnd⟩
  unfold f_J7_equals at hf
  clear hr hlk hnm hnd ht
  refine a_aload_n (pc := 0) X dJ7_equals_0 rfl hl 0 rfl ?_
  refine a_aload_n (pc := 1) X dJ7_equals_1 rfl hl 1 rfl ?_
  refine AW.lift2 (fun _ _ _ _ k1 k2 => lv_acmp_ne (pc := 2) (tgt := 7) X.2.2.1 X.2.2.2.1 dJ7_equals_2 rfl k2 k1) (fun c => ?_) (fun c => ?_)
  · have hf := ite_t c hf
    refine AW.lift (fun _ _ _ _ k => lv_iconst (pc := 5) (v := (1 : Int32)) X.2.2.1 X.2.2.2.1 dJ7_equals_5 rfl k) ?_
    exact a_zreturn X Z.2.2.1 rfl Z.2.2.2.1 dJ7_equals_6 hf
  · have hf := ite_f c hf
    refine a_aload_n (pc := 7) X dJ7_equals_7 rfl hl 1 rfl ?_
    refine a_instanceof (pc := 8) X (gw X.1 X.2.1 q1244) (cs_java_lang_String GA) (nc__java_lang_String GA) dJ7_equals_8 hf (fun x8 hf => ?_)
    refine AW.lift2 (fun _ _ _ _ k1 k2 => lv_if_eq (pc := 11) (tgt := 54) X.2.2.1 X.2.2.2.1 dJ7_equals_11 rfl k1 k2) (fun c => ?_) (fun c => ?_)
    · have hf := ite_t c hf
      refine AW.lift (fun _ _ _ _ k => lv_iconst (pc := 54) (v := (0 : Int32)) X.2.2.1 X.2.2.2.1 dJ7_equals_54 rfl k) ?_
      exact a_zreturn X Z.2.2.1 rfl Z.2.2.2.1 dJ7_equals_55 hf
    · have hf := ite_f c hf
      refine a_aload_n (pc := 14) X dJ7_equals_14 rfl hl 1 rfl ?_
      refine a_checkcast (pc := 15) X (gw X.1 X.2.1 q1244) (cs_java_lang_String GA) dJ7_equals_15 hf (fun hf => ?_)
      refine a_astore_n (pc := 18) X dJ7_equals_18 rfl hl (by decide) (lv' := [(2, vR v1), (0, vR v0), (1, vR v1)]) rfl (fun ls hl => ?_)
      refine a_getstatic (pc := 19) (v := .int (1 : Int32)) X (st_COMPACT_STRINGS GA) (gw X.1 X.2.1 q627) (fun _ q => q) dJ7_equals_19 ?_
      refine AW.lift2 (fun _ _ _ _ k1 k2 => lv_if_eq (pc := 22) (tgt := 36) X.2.2.1 X.2.2.2.1 dJ7_equals_22 rfl k1 k2) (fun c => ?_) (fun c => ?_)
      · have hf := ite_t c hf
        exact w_J7_equals_j36 GA Z v0 v1   (hl.sub [1, 0] rfl) hf
      · have hf := ite_f c hf
        refine a_aload_n (pc := 25) X dJ7_equals_25 rfl hl 1 rfl ?_
        refine a_get (pc := 26) (φ := 3401) pI_t X Z.1.2.1 (gw X.1 X.2.1 q776) (fun _ q => q) (by decide) dJ7_equals_26 hf (fun x26 hf => ?_)
        refine a_aload_n (pc := 29) X dJ7_equals_29 rfl hl 0 rfl ?_
        refine a_get (pc := 30) (φ := 3401) pI_t X Z.1.2.1 (gw X.1 X.2.1 q776) (fun _ q => q) (by decide) dJ7_equals_30 hf (fun x30 hf => ?_)
        refine AW.lift2 (fun _ _ _ _ k1 k2 => lv_icmp_ne (pc := 33) (tgt := 54) X.2.2.1 X.2.2.2.1 dJ7_equals_33 rfl k2 k1) (fun c => ?_) (fun c => ?_)
        · have hf := ite_t c hf
          exact w_J7_equals_j36 GA Z v0 v1   (hl.sub [1, 0] rfl) hf
        · have hf := ite_f c hf
          refine AW.lift (fun _ _ _ _ k => lv_iconst (pc := 54) (v := (0 : Int32)) X.2.2.1 X.2.2.2.1 dJ7_equals_54 rfl k) ?_
          exact a_zreturn X Z.2.2.1 rfl Z.2.2.2.1 dJ7_equals_55 hf
theorem np_J4_afterNodeInsertion : npar yJ4_afterNodeInsertion.desc 1 := by unfold npar; decide +kernel
theorem hy_J4_afterNodeInsertion : yJ4_afterNodeInsertion.cls ≠ "java/lang/invoke/MethodHandle" ∧ yJ4_afterNodeInsertion.cls ≠ "java/lang/invoke/VarHandle" := by decide +kernel
theorem w_J4_afterNodeInsertion (GA : GA l s0 a0 K lam) (v0 : Option Nat) (v1 : Int32) : AMet l s0 K lam yJ4_afterNodeInsertion (Cond.code yJ4_afterNodeInsertion cJ4_afterNodeInsertion (2 : Nat) (Option.none : Option ClassFile.FieldType)) 0 0 [vR v0, vI v1] oV (f_J4_afterNodeInsertion K v0 v1) := by
  refine AMet.of GA.1 (plainFor_of_name (by decide +kernel)) (Nat.le_of_ble_eq_true rfl) ?_
  intro b r hf p e s m args below meth c X hr hlk hnm hnd ht ls hl
  have Z : WZ l s0 a0 K p s m c cJ4_afterNodeInsertion yJ4_afterNodeInsertion.cls 2 b { frames := 0, cells := K 0 - aX b, slots := K 1 - aW b, locals := 0 } 0 0 meth [] none yJ4_afterNodeInsertion := ⟨⟨X, GA.2.1, GA.2.2.1, rfl, rfl, Nat.le_refl _, Nat.le_refl _⟩, tab_nil ht, hr, hlk, hnm, hnd⟩
  unfold f_J4_afterNodeInsertion at hf
  clear hr hlk hnm hnd ht
  exact a_return X Z.2.2.1 Z.2.2.2.1 dJ4_afterNodeInsertion_0 hf
theorem np_J4_afterNodeAccess : npar yJ4_afterNodeAccess.desc 1 := by unfold npar; decide +kernel
theorem hy_J4_afterNodeAccess : yJ4_afterNodeAccess.cls ≠ "java/lang/invoke/MethodHandle" ∧ yJ4_afterNodeAccess.cls ≠ "java/lang/invoke/VarHandle" := by decide +kernel
theorem w_J4_afterNodeAccess (GA : GA l s0 a0 K lam) (v0 : Option Nat) (v1 : Option Nat) : AMet l s0 K lam yJ4_afterNodeAccess (Cond.code yJ4_afterNodeAccess cJ4_afterNodeAccess (2 : Nat) (Option.none : Option ClassFile.FieldType)) 0 0 [vR v0, vR v1] oV (f_J4_afterNodeAccess K v0 v1) := by
  refine AMet.of GA.1 (plainFor_of_name (by decide +kernel)) (Nat.le_of_ble_eq_true rfl) ?_
  intro b r hf p e s m args below meth c X hr hlk hnm hnd ht ls hl
  have Z : WZ l s0 a0 K p s m c cJ4_afterNodeAccess yJ4_afterNodeAccess.cls 2 b { frames := 0, cells := K 0 - aX b, slots := K 1 - aW b, locals := 0 } 0 0 meth [] none yJ4_afterNodeAccess := ⟨⟨X, GA.2.1, GA.2.2.1, rfl, rfl, Nat.le_refl _, Nat.le_refl _⟩, tab_nil ht, hr, hlk, hnm, hnd⟩
  unfold f_J4_afterNodeAccess at hf
  clear hr hlk hnm hnd ht
  exact a_return X Z.2.2.1 Z.2.2.2.1 dJ4_afterNodeAccess_0 hf
theorem w_J4_putVal_j292 {r : Except Nat (Option Nat) × AH} (GA : GA l s0 a0 K lam) (Z : WZ l s0 a0 K p s m c cJ4_putVal yJ4_putVal.cls 13 b R 3 68 meth [] (some (.object "java/lang/Object")) yJ4_putVal) (v0 : Option Nat) (v5 : Int32)   {h : AH} {ls : Array Slot} (hl : LV ls 13 [(0, vR v0), (5, vI v5)]) (hf : f_J4_putVal_j292 K v0 v5 h = some r) : AW s0 K lam p l e R s m args below meth c (AQ s0 K lam below oR b r s) b h (F0 m 292 ls []) := by
  unfold f_J4_putVal_j292 at hf
  have X := Z.1.1
  refine a_aload_n (pc := 292) X dJ4_putVal_292 rfl hl 0 rfl ?_
  refine a_iload (pc := 293) X dJ4_putVal_293 hl 1 rfl ?_
  obtain ⟨a295, rfl, ⟨hk, hf⟩ | ⟨-, hf⟩⟩ := dv_some hf
  rotate_left
  · exact fl_none hf
  refine a_callb (pc := 295) (rs := []) (avs := [vR (some a295), vI v5]) Z.1 (w_J4_afterNodeInsertion GA (some a295) v5) (Or.inl rfl) q1704 q81 (by decide) (by decide) dJ4_putVal_295 hl.1 (Nat.le_of_ble_eq_true rfl) hf (ct_V hk ⟨by decide, by decide⟩ X (Or.inl rfl) q1704 q1701 q1702 q1703 hy_J4_afterNodeInsertion np_J4_afterNodeInsertion rfl dJ4_putVal_295) (fun q h he hX => a_out (unc_of Z.2.1 rfl) Z.2.2.2.1 he hX) (fun _ h hf => ?kk295)
  refine AW.eq (g2 := F0 m 298 ls []) rfl ?_
  refine a_null (pc := 298) X dJ4_putVal_298 ?_
  exact a_areturn X Z.2.2.1 (Or.inl ⟨_, rfl⟩) Z.2.2.2.1 dJ4_putVal_299 hf
theorem w_J4_putVal_j259 {r : Except Nat (Option Nat) × AH} (GA : GA l s0 a0 K lam) (Z : WZ l s0 a0 K p s m c cJ4_putVal yJ4_putVal.cls 13 b R 3 68 meth [] (some (.object "java/lang/Object")) yJ4_putVal) (v0 : Option Nat) (v5 : Int32)   {h : AH} {ls : Array Slot} (hl : LV ls 13 [(0, vR v0), (5, vI v5)]) (hf : f_J4_putVal_j259 K v0 v5 h = some r) : AW s0 K lam p l e R s m args below meth c (AQ s0 K lam below oR b r s) b h (F0 m 259 ls []) := by
  unfold f_J4_putVal_j259 at hf
  have X := Z.1.1
  refine a_aload_n (pc := 259) X dJ4_putVal_259 rfl hl 0 rfl ?_
  refine AW.lift (fun _ _ _ _ k => lv_dup (pc := 260) X.2.2.1 X.2.2.2.1 dJ4_putVal_260 (cat_rf _) k) ?_
  refine a_get (pc := 261) (φ := 2803) pI_t X Z.1.2.1 (gw X.1 X.2.1 q204) (fun _ q => q) (by decide) dJ4_putVal_261 hf (fun x261 hf => ?_)
  refine AW.lift (fun _ _ _ _ k => lv_iconst (pc := 264) (v := (1 : Int32)) X.2.2.1 X.2.2.2.1 dJ4_putVal_264 rfl k) ?_
  refine AW.lift (fun _ _ _ _ k => lv_iadd (pc := 265) X.2.2.1 X.2.2.2.1 dJ4_putVal_265 k) ?_
  refine a_put (pc := 266) (φ := 2803) X Z.1.2.1 Z.1.2.2.1 (gw X.1 X.2.1 q204) (fun _ q => q) (by decide) rfl rfl dJ4_putVal_266 hf (fun h hf => ?_)
  refine a_aload_n (pc := 269) X dJ4_putVal_269 rfl hl 0 rfl ?_
  refine AW.lift (fun _ _ _ _ k => lv_dup (pc := 270) X.2.2.1 X.2.2.2.1 dJ4_putVal_270 (cat_rf _) k) ?_
  refine a_get (pc := 271) (φ := 2802) pI_t X Z.1.2.1 (gw X.1 X.2.1 q202) (fun _ q => q) (by decide) dJ4_putVal_271 hf (fun x271 hf => ?_)
  refine AW.lift (fun _ _ _ _ k => lv_iconst (pc := 274) (v := (1 : Int32)) X.2.2.1 X.2.2.2.1 dJ4_putVal_274 rfl k) ?_
  refine AW.lift (fun _ _ _ _ k => lv_iadd (pc := 275) X.2.2.1 X.2.2.2.1 dJ4_putVal_275 k) ?_
  refine AW.lift (fun _ _ _ _ k => lv_dup_x1 (pc := 276) X.2.2.1 X.2.2.2.1 dJ4_putVal_276 rfl (cat_rf _) k) ?_
  refine a_put (pc := 277) (φ := 2802) X Z.1.2.1 Z.1.2.2.1 (gw X.1 X.2.1 q202) (fun _ q => q) (by decide) rfl rfl dJ4_putVal_277 hf (fun h hf => ?_)
  refine a_aload_n (pc := 280) X dJ4_putVal_280 rfl hl 0 rfl ?_
  refine a_get (pc := 281) (φ := 2804) pI_t X Z.1.2.1 (gw X.1 X.2.1 q205) (fun _ q => q) (by decide) dJ4_putVal_281 hf (fun x281 hf => ?_)
  refine AW.lift2 (fun _ _ _ _ k1 k2 => lv_icmp_le (pc := 284) (tgt := 292) X.2.2.1 X.2.2.2.1 dJ4_putVal_284 rfl k1 k2) (fun c => ?_) (fun c => ?_)
  · have hf := ite_t c hf
    exact w_J4_putVal_j292 GA Z v0 v5   (hl.sub [0, 1] rfl) hf
  · have hf := ite_f c hf
    refine a_aload_n (pc := 287) X dJ4_putVal_287 rfl hl 0 rfl ?_
    obtain ⟨a288, rfl, ⟨hk, hf⟩ | ⟨-, hf⟩⟩ := dv_some hf
    rotate_left
    · exact fl_none hf
    refine a_callb (pc := 288) (rs := []) (avs := [vR (some a288)]) Z.1 (w_J4_resize GA (some a288)) (Or.inl rfl) q1157 q81 (by decide) (by decide) dJ4_putVal_288 hl.1 (Nat.le_of_ble_eq_true rfl) hf (ct_V hk ⟨by decide, by decide⟩ X (Or.inl rfl) q1157 q1154 q1155 q1156 hy_J4_resize np_J4_resize rfl dJ4_putVal_288) (fun q h he hX => a_out (unc_of Z.2.1 rfl) Z.2.2.2.1 he hX) (fun x288 h hf => ?kk288)
    refine AW.eq (g2 := F0 m 291 ls [va_rf x288]) rfl ?_
    refine AW.lift (fun _ _ _ _ k => lv_pop (pc := 291) X.2.2.1 X.2.2.2.1 dJ4_putVal_291 (cat_rf _) k) ?_
    exact w_J4_putVal_j292 GA Z (some a288) v5   (hl.sub [0, 1] rfl) hf
theorem w_J4_putVal_j250 {r : Except Nat (Option Nat) × AH} (GA : GA l s0 a0 K lam) (Z : WZ l s0 a0 K p s m c cJ4_putVal yJ4_putVal.cls 13 b R 3 68 meth [] (some (.object "java/lang/Object")) yJ4_putVal) (v0 : Option Nat) (v10 : Option Nat) (v12 : Option Nat)   {h : AH} {ls : Array Slot} (hl : LV ls 13 [(0, vR v0), (10, vR v10), (12, vR v12)]) (hf : f_J4_putVal_j250 K v0 v10 v12 h = some r) : AW s0 K lam p l e R s m args below meth c (AQ s0 K lam below oR b r s) b h (F0 m 250 ls []) := by
  unfold f_J4_putVal_j250 at hf
  have X := Z.1.1
  refine a_aload_n (pc := 250) X dJ4_putVal_250 rfl hl 0 rfl ?_
  refine a_aload (pc := 251) X dJ4_putVal_251 hl 1 rfl ?_
  obtain ⟨a253, rfl, ⟨hk, hf⟩ | ⟨-, hf⟩⟩ := dv_some hf
  rotate_left
  · exact fl_none hf
  refine a_callb (pc := 253) (rs := []) (avs := [vR (some a253), vR v10]) Z.1 (w_J4_afterNodeAccess GA (some a253) v10) (Or.inl rfl) q1700 q81 (by decide) (by decide) dJ4_putVal_253 hl.1 (Nat.le_of_ble_eq_true rfl) hf (ct_V hk ⟨by decide, by decide⟩ X (Or.inl rfl) q1700 q1697 q1698 q1699 hy_J4_afterNodeAccess np_J4_afterNodeAccess rfl dJ4_putVal_253) (fun q h he hX => a_out (unc_of Z.2.1 rfl) Z.2.2.2.1 he hX) (fun _ h hf => ?kk253)
  refine AW.eq (g2 := F0 m 256 ls []) rfl ?_
  refine a_aload (pc := 256) X dJ4_putVal_256 hl 2 rfl ?_
  exact a_areturn X Z.2.2.1 (Or.inl ⟨_, rfl⟩) Z.2.2.2.1 dJ4_putVal_258 hf
theorem w_J4_putVal_j244 {r : Except Nat (Option Nat) × AH} (GA : GA l s0 a0 K lam) (Z : WZ l s0 a0 K p s m c cJ4_putVal yJ4_putVal.cls 13 b R 3 68 meth [] (some (.object "java/lang/Object")) yJ4_putVal) (v0 : Option Nat) (v3 : Option Nat) (v10 : Option Nat) (v12 : Option Nat)   {h : AH} {ls : Array Slot} (hl : LV ls 13 [(0, vR v0), (3, vR v3), (10, vR v10), (12, vR v12)]) (hf : f_J4_putVal_j244 K v0 v3 v10 v12 h = some r) : AW s0 K lam p l e R s m args below meth c (AQ s0 K lam below oR b r s) b h (F0 m 244 ls []) := by
  unfold f_J4_putVal_j244 at hf
  have X := Z.1.1
  refine a_aload (pc := 244) X dJ4_putVal_244 hl 2 rfl ?_
  refine a_aload_n (pc := 246) X dJ4_putVal_246 rfl hl 1 rfl ?_
  refine a_put (pc := 247) (φ := 2902) X Z.1.2.1 Z.1.2.2.1 (gw X.1 X.2.1 q1190) (fun _ q => q) (by decide) rfl (fits_rf _ (Or.inl ⟨_, rfl⟩)) dJ4_putVal_247 hf (fun h hf => ?_)
  exact w_J4_putVal_j250 GA Z v0 v10 v12   (hl.sub [0, 2, 3] rfl) hf
theorem w_J4_putVal_j222 {r : Except Nat (Option Nat) × AH} (GA : GA l s0 a0 K lam) (Z : WZ l s0 a0 K p s m c cJ4_putVal yJ4_putVal.cls 13 b R 3 68 meth [] (some (.object "java/lang/Object")) yJ4_putVal) (v0 : Option Nat) (v3 : Option Nat) (v4 : Int32) (v5 : Int32) (v10 : Option Nat)   {h : AH} {ls : Array Slot} (hl : LV ls 13 [(0, vR v0), (3, vR v3), (4, vI v4), (5, vI v5), (10, vR v10)]) (hf : f_J4_putVal_j222 K v0 v3 v4 v5 v10 h = some r) : AW s0 K lam p l e R s m args below meth c (AQ s0 K lam below oR b r s) b h (F0 m 222 ls []) := by
  unfold f_J4_putVal_j222 at hf
  have X := Z.1.1
  refine a_aload (pc := 222) X dJ4_putVal_222 hl 4 rfl ?_
  refine a_ifnull (pc := 224) (tgt := 259) X dJ4_putVal_224 rfl (fun c => ?_) (fun c => ?_)
  · have hf := ite_t c hf
    exact w_J4_putVal_j259 GA Z v0 v5   (hl.sub [0, 3] rfl) hf
  · have hf := ite_f c hf
    refine a_aload (pc := 227) X dJ4_putVal_227 hl 4 rfl ?_
    refine a_get (pc := 229) (φ := 2902) pR_t X Z.1.2.1 (gw X.1 X.2.1 q1190) (fun _ q => q) (by decide) dJ4_putVal_229 hf (fun x229 hf => ?_)
    refine a_astore (pc := 232) X dJ4_putVal_232 hl (by decide) (lv' := [(12, vR x229), (0, vR v0), (3, vR v3), (4, vI v4), (5, vI v5), (10, vR v10)]) rfl (fun ls hl => ?_)
    refine a_iload (pc := 234) X dJ4_putVal_234 hl 3 rfl ?_
    refine AW.lift2 (fun _ _ _ _ k1 k2 => lv_if_eq (pc := 236) (tgt := 244) X.2.2.1 X.2.2.2.1 dJ4_putVal_236 rfl k1 k2) (fun c => ?_) (fun c => ?_)
    · have hf := ite_t c hf
      exact w_J4_putVal_j244 GA Z v0 v3 v10 x229   (hl.sub [1, 2, 5, 0] rfl) hf
    · have hf := ite_f c hf
      refine a_aload (pc := 239) X dJ4_putVal_239 hl 0 rfl ?_
      refine a_ifnonnull (pc := 241) (tgt := 250) X dJ4_putVal_241 rfl (fun c => ?_) (fun c => ?_)
      · have hf := ite_f c hf
        exact w_J4_putVal_j250 GA Z v0 v10 x229   (hl.sub [1, 5, 0] rfl) hf
      · have hf := ite_t c hf
        exact w_J4_putVal_j244 GA Z v0 v3 v10 x229   (hl.sub [1, 2, 5, 0] rfl) hf
theorem w_J4_putVal_j97 {r : Except Nat (Option Nat) × AH} (GA : GA l s0 a0 K lam) (Z : WZ l s0 a0 K p s m c cJ4_putVal yJ4_putVal.cls 13 b R 3 68 meth [] (some (.object "java/lang/Object")) yJ4_putVal) (v0 : Option Nat) (v3 : Option Nat) (v4 : Int32) (v5 : Int32) (v7 : Option Nat)   {h : AH} {ls : Array Slot} (hl : LV ls 13 [(0, vR v0), (3, vR v3), (4, vI v4), (5, vI v5), (7, vR v7)]) (hf : f_J4_putVal_j97 K v0 v3 v4 v5 v7 h = some r) : AW s0 K lam p l e R s m args below meth c (AQ s0 K lam below oR b r s) b h (F0 m 97 ls []) := by
  unfold f_J4_putVal_j97 at hf
  have X := Z.1.1
  refine a_aload (pc := 97) X dJ4_putVal_97 hl 4 rfl ?_
  refine a_astore (pc := 99) X dJ4_putVal_99 hl (by decide) (lv' := [(10, vR v7), (0, vR v0), (3, vR v3), (4, vI v4), (5, vI v5), (7, vR v7)]) rfl (fun ls hl => ?_)
  refine AW.lift (fun _ _ _ _ k => lv_goto (pc := 101) (tgt := 222) X.2.2.1 X.2.2.2.1 dJ4_putVal_101 rfl k) ?_
  exact w_J4_putVal_j222 GA Z v0 v3 v4 v5 v7   (hl.sub [1, 2, 3, 4, 0] rfl) hf
theorem w_J4_putVal_j145 {r : Except Nat (Option Nat) × AH} (GA : GA l s0 a0 K lam) (Z : WZ l s0 a0 K p s m c cJ4_putVal yJ4_putVal.cls 13 b R 3 68 meth [] (some (.object "java/lang/Object")) yJ4_putVal) (v0 : Option Nat) (v1 : Int32) (v2 : Option Nat) (v3 : Option Nat) (v4 : Int32) (v5 : Int32) (v6 : Option Nat) (v7 : Option Nat) (v10 : Option Nat) (v12 : Int32)   {h : AH} {ls : Array Slot} (hl : LV ls 13 [(0, vR v0), (1, vI v1), (2, vR v2), (3, vR v3), (4, vI v4), (5, vI v5), (6, vR v6), (7, vR v7), (10, vR v10), (12, vI v12)]) (hf : f_J4_putVal_j145 K v0 v1 v2 v3 v4 v5 v6 v7 v10 v12 h = some r) : AW s0 K lam p l e R s m args below meth c (AQ s0 K lam below oR b r s) b h (F0 m 145 ls []) := by
  unfold f_J4_putVal_j145 at hf
  have X := Z.1.1
  refine a_aload (pc := 145) X dJ4_putVal_145 hl 7 rfl ?_
  refine a_aload_n (pc := 147) X dJ4_putVal_147 rfl hl 0 rfl ?_
  refine a_iload_n (pc := 148) X dJ4_putVal_148 rfl hl 1 rfl ?_
  refine a_aload_n (pc := 149) X dJ4_putVal_149 rfl hl 2 rfl ?_
  refine a_aload_n (pc := 150) X dJ4_putVal_150 rfl hl 3 rfl ?_
  refine a_null (pc := 151) X dJ4_putVal_151 ?_
  obtain ⟨a152, rfl, ⟨hk, hf⟩ | ⟨-, hf⟩⟩ := dv_some hf
  rotate_left
  · exact fl_none hf
  refine a_callb (pc := 152) (rs := [vR v7]) (avs := [vR (some a152), vI v1, vR v2, vR v3, vR none]) Z.1 (w_J4_newNode GA (some a152) v1 v2 v3 none) (Or.inl rfl) q1593 q81 (by decide) (by decide) dJ4_putVal_152 hl.1 (Nat.le_of_ble_eq_true rfl) hf (ct_V hk ⟨by decide, by decide⟩ X (Or.inl rfl) q1593 q1590 q1591 q1592 hy_J4_newNode np_J4_newNode rfl dJ4_putVal_152) (fun q h he hX => a_out (unc_of Z.2.1 rfl) Z.2.2.2.1 he hX) (fun x152 h hf => ?kk152)
  refine AW.eq (g2 := F0 m 155 ls [va_rf x152, va_rf v7]) rfl ?_
  refine a_put (pc := 155) (φ := 2903) X Z.1.2.1 Z.1.2.2.1 (gw X.1 X.2.1 q1196) (fun _ q => q) (by decide) rfl (fits_rf _ (Or.inl ⟨_, rfl⟩)) dJ4_putVal_155 hf (fun h hf => ?_)
  refine a_iload (pc := 158) X dJ4_putVal_158 hl 9 rfl ?_
  refine AW.lift (fun _ _ _ _ k => lv_bipush (pc := 160) (v := (7 : Int32)) X.2.2.1 X.2.2.2.1 dJ4_putVal_160 rfl k) ?_
  refine AW.lift2 (fun _ _ _ _ k1 k2 => lv_icmp_lt (pc := 162) (tgt := 222) X.2.2.1 X.2.2.2.1 dJ4_putVal_162 rfl k1 k2) (fun c => ?_) (fun c => ?_)
  · have hf := ite_t c hf
    exact w_J4_putVal_j222 GA Z (some a152) v3 v4 v5 v10   (hl.sub [0, 3, 4, 5, 8] rfl) hf
  · have hf := ite_f c hf
    refine a_aload_n (pc := 165) X dJ4_putVal_165 rfl hl 0 rfl ?_
    refine a_aload (pc := 166) X dJ4_putVal_166 hl 6 rfl ?_
    refine a_iload_n (pc := 168) X dJ4_putVal_168 rfl hl 1 rfl ?_
    exact fl_no hf
theorem w_J4_putVal_j212 {r : Except Nat (Option Nat) × AH} (GA : GA l s0 a0 K lam) (Z : WZ l s0 a0 K p s m c cJ4_putVal yJ4_putVal.cls 13 b R 3 68 meth [] (some (.object "java/lang/Object")) yJ4_putVal) (v0 : Option Nat) (v1 : Int32) (v2 : Option Nat) (v3 : Option Nat) (v4 : Int32) (v5 : Int32) (v6 : Option Nat) (v10 : Option Nat) (v12 : Int32)  (rc134 : Option Nat → Int32 → AM (Option Nat)) (hrc134 : ∀ (v7 : Option Nat) (v12 : Int32) (h : AH) (ls : Array Slot), LV ls 13 [(0, vR v0), (1, vI v1), (2, vR v2), (3, vR v3), (4, vI v4), (5, vI v5), (6, vR v6), (7, vR v7), (12, vI v12)] → rc134 v7 v12 h = some r → AW s0 K lam p l e R s m args below meth c (AQ s0 K lam below oR b r s) b h (F0 m 134 ls [])) {h : AH} {ls : Array Slot} (hl : LV ls 13 [(0, vR v0), (1, vI v1), (2, vR v2), (3, vR v3), (4, vI v4), (5, vI v5), (6, vR v6), (10, vR v10), (12, vI v12)]) (hf : f_J4_putVal_j212 K rc134 v0 v1 v2 v3 v4 v5 v6 v10 v12 h = some r) : AW s0 K lam p l e R s m args below meth c (AQ s0 K lam below oR b r s) b h (F0 m 212 ls []) := by
  unfold f_J4_putVal_j212 at hf
  have X := Z.1.1
  refine a_aload (pc := 212) X dJ4_putVal_212 hl 7 rfl ?_
  refine a_astore (pc := 214) X dJ4_putVal_214 hl (by decide) (lv' := [(7, vR v10), (0, vR v0), (1, vI v1), (2, vR v2), (3, vR v3), (4, vI v4), (5, vI v5), (6, vR v6), (10, vR v10), (12, vI v12)]) rfl (fun ls hl => ?_)
  refine a_iinc (pc := 216) (v := (v12 + (1 : Int32))) X dJ4_putVal_216 hl (k := 9) rfl rfl (by decide) (lv' := [(12, vI (v12 + (1 : Int32))), (7, vR v10), (0, vR v0), (1, vI v1), (2, vR v2), (3, vR v3), (4, vI v4), (5, vI v5), (6, vR v6), (10, vR v10)]) rfl (fun ls hl => ?_)
  refine AW.lift (fun _ _ _ _ k => lv_goto (pc := 219) (tgt := 134) X.2.2.1 X.2.2.2.1 dJ4_putVal_219 rfl k) ?_
  exact hrc134 v10 (v12 + (1 : Int32)) _ _ (hl.sub [2, 3, 4, 5, 6, 7, 8, 1, 0] rfl) hf
theorem w_J4_putVal_j209 {r : Except Nat (Option Nat) × AH} (GA : GA l s0 a0 K lam) (Z : WZ l s0 a0 K p s m c cJ4_putVal yJ4_putVal.cls 13 b R 3 68 meth [] (some (.object "java/lang/Object")) yJ4_putVal) (v0 : Option Nat) (v3 : Option Nat) (v4 : Int32) (v5 : Int32) (v10 : Option Nat)   {h : AH} {ls : Array Slot} (hl : LV ls 13 [(0, vR v0), (3, vR v3), (4, vI v4), (5, vI v5), (10, vR v10)]) (hf : f_J4_putVal_j209 K v0 v3 v4 v5 v10 h = some r) : AW s0 K lam p l e R s m args below meth c (AQ s0 K lam below oR b r s) b h (F0 m 209 ls []) := by
  unfold f_J4_putVal_j209 at hf
  have X := Z.1.1
  refine AW.lift (fun _ _ _ _ k => lv_goto (pc := 209) (tgt := 222) X.2.2.1 X.2.2.2.1 dJ4_putVal_209 rfl k) ?_
  exact w_J4_putVal_j222 GA Z v0 v3 v4 v5 v10   (hl.sub [0, 1, 2, 3, 4] rfl) hf
theorem w_J4_putVal_b134 {r : Except Nat (Option Nat) × AH} (GA : GA l s0 a0 K lam) (Z : WZ l s0 a0 K p s m c cJ4_putVal yJ4_putVal.cls 13 b R 3 68 meth [] (some (.object "java/lang/Object")) yJ4_putVal) (v0 : Option Nat) (v1 : Int32) (v2 : Option Nat) (v3 : Option Nat) (v4 : Int32) (v5 : Int32) (v6 : Option Nat) (v7 : Option Nat) (v12 : Int32)  (rc134 : Option Nat → Int32 → AM (Option Nat)) (hrc134 : ∀ (v7 : Option Nat) (v12 : Int32) (h : AH) (ls : Array Slot), LV ls 13 [(0, vR v0), (1, vI v1), (2, vR v2), (3, vR v3), (4, vI v4), (5, vI v5), (6, vR v6), (7, vR v7), (12, vI v12)] → rc134 v7 v12 h = some r → AW s0 K lam p l e R s m args below meth c (AQ s0 K lam below oR b r s) b h (F0 m 134 ls [])) {h : AH} {ls : Array Slot} (hl : LV ls 13 [(0, vR v0), (1, vI v1), (2, vR v2), (3, vR v3), (4, vI v4), (5, vI v5), (6, vR v6), (7, vR v7), (12, vI v12)]) (hf : f_J4_putVal_b134 K rc134 v0 v1 v2 v3 v4 v5 v6 v7 v12 h = some r) : AW s0 K lam p l e R s m args below meth c (AQ s0 K lam below oR b r s) b h (F0 m 134 ls []) := by
  unfold f_J4_putVal_b134 at hf
  have X := Z.1.1
  refine a_aload (pc := 134) X dJ4_putVal_134 hl 7 rfl ?_
  refine a_get (pc := 136) (φ := 2903) pR_t X Z.1.2.1 (gw X.1 X.2.1 q1196) (fun _ q => q) (by decide) dJ4_putVal_136 hf (fun x136 hf => ?_)
  refine AW.lift (fun _ _ _ _ k => lv_dup (pc := 139) X.2.2.1 X.2.2.2.1 dJ4_putVal_139 (cat_rf _) k) ?_
  refine a_astore (pc := 140) X dJ4_putVal_140 hl (by decide) (lv' := [(10, vR x136), (0, vR v0), (1, vI v1), (2, vR v2), (3, vR v3), (4, vI v4), (5, vI v5), (6, vR v6), (7, vR v7), (12, vI v12)]) rfl (fun ls hl => ?_)
  refine a_ifnonnull (pc := 142) (tgt := 175) X dJ4_putVal_142 rfl (fun c => ?_) (fun c => ?_)
  · have hf := ite_f c hf
    refine a_aload (pc := 175) X dJ4_putVal_175 hl 0 rfl ?_
    refine a_get (pc := 177) (φ := 2900) pI_t X Z.1.2.1 (gw X.1 X.2.1 q1184) (fun _ q => q) (by decide) dJ4_putVal_177 hf (fun x177 hf => ?_)
    refine a_iload_n (pc := 180) X dJ4_putVal_180 rfl hl 2 rfl ?_
    refine AW.lift2 (fun _ _ _ _ k1 k2 => lv_icmp_ne (pc := 181) (tgt := 212) X.2.2.1 X.2.2.2.1 dJ4_putVal_181 rfl k2 k1) (fun c => ?_) (fun c => ?_)
    · have hf := ite_t c hf
      refine a_aload (pc := 184) X dJ4_putVal_184 hl 0 rfl ?_
      refine a_get (pc := 186) (φ := 2901) pR_t X Z.1.2.1 (gw X.1 X.2.1 q1188) (fun _ q => q) (by decide) dJ4_putVal_186 hf (fun x186 hf => ?_)
      refine AW.lift (fun _ _ _ _ k => lv_dup (pc := 189) X.2.2.1 X.2.2.2.1 dJ4_putVal_189 (cat_rf _) k) ?_
      refine a_astore (pc := 190) X dJ4_putVal_190 hl (by decide) (lv' := [(11, vR x186), (10, vR x136), (0, vR v0), (1, vI v1), (2, vR v2), (3, vR v3), (4, vI v4), (5, vI v5), (6, vR v6), (7, vR v7), (12, vI v12)]) rfl (fun ls hl => ?_)
      refine a_aload_n (pc := 192) X dJ4_putVal_192 rfl hl 4 rfl ?_
      refine AW.lift2 (fun _ _ _ _ k1 k2 => lv_acmp_eq (pc := 193) (tgt := 222) X.2.2.1 X.2.2.2.1 dJ4_putVal_193 rfl k1 k2) (fun c => ?_) (fun c => ?_)
      · have hf := ite_t c hf
        exact w_J4_putVal_j222 GA Z v0 v3 v4 v5 x136   (hl.sub [2, 5, 6, 7, 1] rfl) hf
      · have hf := ite_f c hf
        refine a_aload_n (pc := 196) X dJ4_putVal_196 rfl hl 4 rfl ?_
        refine a_ifnull (pc := 197) (tgt := 212) X dJ4_putVal_197 rfl (fun c => ?_) (fun c => ?_)
        · have hf := ite_t c hf
          exact w_J4_putVal_j212 GA Z v0 v1 v2 v3 v4 v5 v6 x136 v12  rc134 hrc134 (hl.sub [2, 3, 4, 5, 6, 7, 8, 1, 10] rfl) hf
        · have hf := ite_f c hf
          refine a_aload_n (pc := 200) X dJ4_putVal_200 rfl hl 4 rfl ?_
          refine a_aload (pc := 201) X dJ4_putVal_201 hl 0 rfl ?_
          obtain ⟨a203, rfl⟩ := dv_ref hf
          refine' a_virt hf ?kv203 ?cs203
          case cs203 =>
            intro hf kk
            rcases dv_someS hf with ⟨hk, hf⟩ | ⟨-, hf⟩
            · refine a_callb (pc := 203) (rs := []) (avs := [vR (some a203), vR x186]) Z.1 (w_X10_equals GA (some a203) x186) (Or.inl rfl) q1611 q126 (by decide) (by decide) dJ4_putVal_203 hl.1 (Nat.le_of_ble_eq_true rfl) hf (ct_U (x := ({ cls := "java/lang/Object", name := "equals", desc := "(Ljava/lang/Object;)Z" } : MethodName)) (owner := "java/lang/Object") hk ⟨by decide, by decide⟩ X (Or.inl rfl) q1611 q1595 (q1597) (va_Decl.ofD (gf (args := args) X.1 X.2.1 q1594 rfl)) ⟨by decide, by decide⟩ q1610 q1609 (np_of (np_X10_equals)) rfl dJ4_putVal_203) (fun q h he hX => a_out (unc_of Z.2.1 rfl) Z.2.2.2.1 he hX) (fun v h hf => kk v h hf)
            rcases dv_someS hf with ⟨hk, hf⟩ | ⟨-, hf⟩
            · refine a_callb (pc := 203) (rs := []) (avs := [vR (some a203), vR x186]) Z.1 (w_J23_equals GA (some a203) x186) (Or.inl rfl) q1621 q105 (by decide) (by decide) dJ4_putVal_203 hl.1 (Nat.le_of_ble_eq_true rfl) hf (ct_U (x := ({ cls := "java/lang/Object", name := "equals", desc := "(Ljava/lang/Object;)Z" } : MethodName)) (owner := "java/lang/Object") hk ⟨by decide, by decide⟩ X (Or.inl rfl) q1621 q1595 (q1597) (va_Decl.ofD (gf (args := args) X.1 X.2.1 q1594 rfl)) ⟨by decide, by decide⟩ q1620 q1619 (np_of (np_J23_equals)) rfl dJ4_putVal_203) (fun q h he hX => a_out (unc_of Z.2.1 rfl) Z.2.2.2.1 he hX) (fun v h hf => kk v h hf)
            rcases dv_someS hf with ⟨hk, hf⟩ | ⟨-, hf⟩
            · refine a_callb (pc := 203) (rs := []) (avs := [vR (some a203), vR x186]) Z.1 (w_J7_equals GA (some a203) x186) (Or.inl rfl) q1628 q84 (by decide) (by decide) dJ4_putVal_203 hl.1 (Nat.le_of_ble_eq_true rfl) hf (ct_U (x := ({ cls := "java/lang/Object", name := "equals", desc := "(Ljava/lang/Object;)Z" } : MethodName)) (owner := "java/lang/Object") hk ⟨by decide, by decide⟩ X (Or.inl rfl) q1628 q1595 (q1597) (va_Decl.ofD (gf (args := args) X.1 X.2.1 q1594 rfl)) ⟨by decide, by decide⟩ q1627 q1626 (np_of (np_J7_equals)) rfl dJ4_putVal_203) (fun q h he hX => a_out (unc_of Z.2.1 rfl) Z.2.2.2.1 he hX) (fun v h hf => kk v h hf)
            exact fl_none hf
          case kv203 =>
          intro x203 h hf
          refine AW.eq (g2 := F0 m 206 ls [.int x203]) rfl ?_
          refine AW.lift2 (fun _ _ _ _ k1 k2 => lv_if_eq (pc := 206) (tgt := 212) X.2.2.1 X.2.2.2.1 dJ4_putVal_206 rfl k1 k2) (fun c => ?_) (fun c => ?_)
          · have hf := ite_t c hf
            exact w_J4_putVal_j212 GA Z v0 v1 (some a203) v3 v4 v5 v6 x136 v12  rc134 hrc134 (hl.sub [2, 3, 4, 5, 6, 7, 8, 1, 10] rfl) hf
          · have hf := ite_f c hf
            exact w_J4_putVal_j209 GA Z v0 v3 v4 v5 x136   (hl.sub [2, 5, 6, 7, 1] rfl) hf
    · have hf := ite_f c hf
      exact w_J4_putVal_j212 GA Z v0 v1 v2 v3 v4 v5 v6 x136 v12  rc134 hrc134 (hl.sub [1, 2, 3, 4, 5, 6, 7, 0, 9] rfl) hf
  · have hf := ite_t c hf
    exact w_J4_putVal_j145 GA Z v0 v1 v2 v3 v4 v5 v6 v7 x136 v12   (hl.sub [1, 2, 3, 4, 5, 6, 7, 8, 0, 9] rfl) hf
theorem w_J4_putVal_l134 {r : Except Nat (Option Nat) × AH} (GA : GA l s0 a0 K lam) (Z : WZ l s0 a0 K p s m c cJ4_putVal yJ4_putVal.cls 13 b R 3 68 meth [] (some (.object "java/lang/Object")) yJ4_putVal) (v0 : Option Nat) (v1 : Int32) (v2 : Option Nat) (v3 : Option Nat) (v4 : Int32) (v5 : Int32) (v6 : Option Nat)  : ∀ (n : Nat) (v7 : Option Nat) (v12 : Int32) (h : AH) (ls : Array Slot), LV ls 13 [(0, vR v0), (1, vI v1), (2, vR v2), (3, vR v3), (4, vI v4), (5, vI v5), (6, vR v6), (7, vR v7), (12, vI v12)] → f_J4_putVal_l134 K v0 v1 v2 v3 v4 v5 v6 n v7 v12 h = some r → AW s0 K lam p l e R s m args below meth c (AQ s0 K lam below oR b r s) b h (F0 m 134 ls []) := by
  intro n
  induction n with
  | zero => intro v7 v12 h ls hl hf; exact fl_no (h := h) hf
  | succ n ih => intro v7 v12 h ls hl hf; exact w_J4_putVal_b134 GA Z v0 v1 v2 v3 v4 v5 v6 v7 v12 (f_J4_putVal_l134 K v0 v1 v2 v3 v4 v5 v6 n) ih hl hf
theorem w_J4_putVal_j104 {r : Except Nat (Option Nat) × AH} (GA : GA l s0 a0 K lam) (Z : WZ l s0 a0 K p s m c cJ4_putVal yJ4_putVal.cls 13 b R 3 68 meth [] (some (.object "java/lang/Object")) yJ4_putVal) (v0 : Option Nat) (v1 : Int32) (v2 : Option Nat) (v3 : Option Nat) (v4 : Int32) (v5 : Int32) (v6 : Option Nat) (v7 : Option Nat)   {h : AH} {ls : Array Slot} (hl : LV ls 13 [(0, vR v0), (1, vI v1), (2, vR v2), (3, vR v3), (4, vI v4), (5, vI v5), (6, vR v6), (7, vR v7)]) (hf : f_J4_putVal_j104 K v0 v1 v2 v3 v4 v5 v6 v7 h = some r) : AW s0 K lam p l e R s m args below meth c (AQ s0 K lam below oR b r s) b h (F0 m 104 ls []) := by
  unfold f_J4_putVal_j104 at hf
  have X := Z.1.1
  refine a_aload (pc := 104) X dJ4_putVal_104 hl 7 rfl ?_
  refine a_instanceof (pc := 106) X (gw X.1 X.2.1 q1162) (cs_none GA) (nc_29_java_util_HashMap_TreeNode GA) dJ4_putVal_106 hf (fun x106 hf => ?_)
  refine AW.lift2 (fun _ _ _ _ k1 k2 => lv_if_eq (pc := 109) (tgt := 131) X.2.2.1 X.2.2.2.1 dJ4_putVal_109 rfl k1 k2) (fun c => ?_) (fun c => ?_)
  · have hf := ite_t c hf
    refine AW.lift (fun _ _ _ _ k => lv_iconst (pc := 131) (v := (0 : Int32)) X.2.2.1 X.2.2.2.1 dJ4_putVal_131 rfl k) ?_
    refine a_istore (pc := 132) X dJ4_putVal_132 hl (by decide) (lv' := [(12, vI (0 : Int32)), (0, vR v0), (1, vI v1), (2, vR v2), (3, vR v3), (4, vI v4), (5, vI v5), (6, vR v6), (7, vR v7)]) rfl (fun ls hl => ?_)
    exact w_J4_putVal_l134 GA Z v0 v1 v2 v3 v4 v5 v6  FU v7 (0 : Int32) _ _ (hl.sub [1, 2, 3, 4, 5, 6, 7, 8, 0] rfl) hf
  · have hf := ite_f c hf
    refine a_aload (pc := 112) X dJ4_putVal_112 hl 7 rfl ?_
    refine a_checkcast (pc := 114) X (gw X.1 X.2.1 q1162) (cs_java_util_HashMap_TreeNode GA) dJ4_putVal_114 hf (fun hf => ?_)
    refine a_aload_n (pc := 117) X dJ4_putVal_117 rfl hl 0 rfl ?_
    refine a_aload (pc := 118) X dJ4_putVal_118 hl 6 rfl ?_
    refine a_iload_n (pc := 120) X dJ4_putVal_120 rfl hl 1 rfl ?_
    refine a_aload_n (pc := 121) X dJ4_putVal_121 rfl hl 2 rfl ?_
    refine a_aload_n (pc := 122) X dJ4_putVal_122 rfl hl 3 rfl ?_
    exact fl_no hf
theorem w_J4_putVal_j29 {r : Except Nat (Option Nat) × AH} (GA : GA l s0 a0 K lam) (Z : WZ l s0 a0 K p s m c cJ4_putVal yJ4_putVal.cls 13 b R 3 68 meth [] (some (.object "java/lang/Object")) yJ4_putVal) (v0 : Option Nat) (v1 : Int32) (v2 : Option Nat) (v3 : Option Nat) (v4 : Int32) (v5 : Int32) (v6 : Option Nat) (v8 : Int32)   {h : AH} {ls : Array Slot} (hl : LV ls 13 [(0, vR v0), (1, vI v1), (2, vR v2), (3, vR v3), (4, vI v4), (5, vI v5), (6, vR v6), (8, vI v8)]) (hf : f_J4_putVal_j29 K v0 v1 v2 v3 v4 v5 v6 v8 h = some r) : AW s0 K lam p l e R s m args below meth c (AQ s0 K lam below oR b r s) b h (F0 m 29 ls []) := by
  unfold f_J4_putVal_j29 at hf
  have X := Z.1.1
  refine a_aload (pc := 29) X dJ4_putVal_29 hl 6 rfl ?_
  refine a_iload (pc := 31) X dJ4_putVal_31 hl 7 rfl ?_
  refine AW.lift (fun _ _ _ _ k => lv_iconst (pc := 33) (v := (1 : Int32)) X.2.2.1 X.2.2.2.1 dJ4_putVal_33 rfl k) ?_
  refine AW.lift (fun _ _ _ _ k => lv_isub (pc := 34) X.2.2.1 X.2.2.2.1 dJ4_putVal_34 k) ?_
  refine a_iload_n (pc := 35) X dJ4_putVal_35 rfl hl 1 rfl ?_
  refine AW.lift (fun _ _ _ _ k => lv_iand (pc := 36) X.2.2.1 X.2.2.2.1 dJ4_putVal_36 k) ?_
  refine AW.lift (fun _ _ _ _ k => lv_dup (pc := 37) X.2.2.1 X.2.2.2.1 dJ4_putVal_37 rfl k) ?_
  refine a_istore (pc := 38) X dJ4_putVal_38 hl (by decide) (lv' := [(9, vI ((v8 - (1 : Int32)) &&& v1)), (0, vR v0), (1, vI v1), (2, vR v2), (3, vR v3), (4, vI v4), (5, vI v5), (6, vR v6), (8, vI v8)]) rfl (fun ls hl => ?_)
  refine a_aaload (pc := 40) (t := 1007) (by decide) rfl X dJ4_putVal_40 hf (fun x40 hf => ?_)
  refine AW.lift (fun _ _ _ _ k => lv_dup (pc := 41) X.2.2.1 X.2.2.2.1 dJ4_putVal_41 (cat_rf _) k) ?_
  refine a_astore (pc := 42) X dJ4_putVal_42 hl (by decide) (lv' := [(7, vR x40), (9, vI ((v8 - (1 : Int32)) &&& v1)), (0, vR v0), (1, vI v1), (2, vR v2), (3, vR v3), (4, vI v4), (5, vI v5), (6, vR v6), (8, vI v8)]) rfl (fun ls hl => ?_)
  refine a_ifnonnull (pc := 44) (tgt := 63) X dJ4_putVal_44 rfl (fun c => ?_) (fun c => ?_)
  · have hf := ite_f c hf
    refine a_aload (pc := 63) X dJ4_putVal_63 hl 0 rfl ?_
    refine a_get (pc := 65) (φ := 2900) pI_t X Z.1.2.1 (gw X.1 X.2.1 q1184) (fun _ q => q) (by decide) dJ4_putVal_65 hf (fun x65 hf => ?_)
    refine a_iload_n (pc := 68) X dJ4_putVal_68 rfl hl 3 rfl ?_
    refine AW.lift2 (fun _ _ _ _ k1 k2 => lv_icmp_ne (pc := 69) (tgt := 104) X.2.2.1 X.2.2.2.1 dJ4_putVal_69 rfl k2 k1) (fun c => ?_) (fun c => ?_)
    · have hf := ite_t c hf
      refine a_aload (pc := 72) X dJ4_putVal_72 hl 0 rfl ?_
      refine a_get (pc := 74) (φ := 2901) pR_t X Z.1.2.1 (gw X.1 X.2.1 q1188) (fun _ q => q) (by decide) dJ4_putVal_74 hf (fun x74 hf => ?_)
      refine AW.lift (fun _ _ _ _ k => lv_dup (pc := 77) X.2.2.1 X.2.2.2.1 dJ4_putVal_77 (cat_rf _) k) ?_
      refine a_astore (pc := 78) X dJ4_putVal_78 hl (by decide) (lv' := [(11, vR x74), (7, vR x40), (9, vI ((v8 - (1 : Int32)) &&& v1)), (0, vR v0), (1, vI v1), (2, vR v2), (3, vR v3), (4, vI v4), (5, vI v5), (6, vR v6), (8, vI v8)]) rfl (fun ls hl => ?_)
      refine a_aload_n (pc := 80) X dJ4_putVal_80 rfl hl 5 rfl ?_
      refine AW.lift2 (fun _ _ _ _ k1 k2 => lv_acmp_eq (pc := 81) (tgt := 97) X.2.2.1 X.2.2.2.1 dJ4_putVal_81 rfl k1 k2) (fun c => ?_) (fun c => ?_)
      · have hf := ite_t c hf
        exact w_J4_putVal_j97 GA Z v0 v3 v4 v5 x40   (hl.sub [3, 6, 7, 8, 1] rfl) hf
      · have hf := ite_f c hf
        refine a_aload_n (pc := 84) X dJ4_putVal_84 rfl hl 5 rfl ?_
        refine a_ifnull (pc := 85) (tgt := 104) X dJ4_putVal_85 rfl (fun c => ?_) (fun c => ?_)
        · have hf := ite_t c hf
          exact w_J4_putVal_j104 GA Z v0 v1 v2 v3 v4 v5 v6 x40   (hl.sub [3, 4, 5, 6, 7, 8, 9, 1] rfl) hf
        · have hf := ite_f c hf
          refine a_aload_n (pc := 88) X dJ4_putVal_88 rfl hl 5 rfl ?_
          refine a_aload (pc := 89) X dJ4_putVal_89 hl 0 rfl ?_
          obtain ⟨a91, rfl⟩ := dv_ref hf
          refine' a_virt hf ?kv91 ?cs91
          case cs91 =>
            intro hf kk
            rcases dv_someS hf with ⟨hk, hf⟩ | ⟨-, hf⟩
            · refine a_callb (pc := 91) (rs := []) (avs := [vR (some a91), vR x74]) Z.1 (w_X10_equals GA (some a91) x74) (Or.inl rfl) q1611 q126 (by decide) (by decide) dJ4_putVal_91 hl.1 (Nat.le_of_ble_eq_true rfl) hf (ct_U (x := ({ cls := "java/lang/Object", name := "equals", desc := "(Ljava/lang/Object;)Z" } : MethodName)) (owner := "java/lang/Object") hk ⟨by decide, by decide⟩ X (Or.inl rfl) q1611 q1595 (q1597) (va_Decl.ofD (gf (args := args) X.1 X.2.1 q1594 rfl)) ⟨by decide, by decide⟩ q1610 q1609 (np_of (np_X10_equals)) rfl dJ4_putVal_91) (fun q h he hX => a_out (unc_of Z.2.1 rfl) Z.2.2.2.1 he hX) (fun v h hf => kk v h hf)
            rcases dv_someS hf with ⟨hk, hf⟩ | ⟨-, hf⟩
            · refine a_callb (pc := 91) (rs := []) (avs := [vR (some a91), vR x74]) Z.1 (w_J23_equals GA (some a91) x74) (Or.inl rfl) q1621 q105 (by decide) (by decide) dJ4_putVal_91 hl.1 (Nat.le_of_ble_eq_true rfl) hf (ct_U (x := ({ cls := "java/lang/Object", name := "equals", desc := "(Ljava/lang/Object;)Z" } : MethodName)) (owner := "java/lang/Object") hk ⟨by decide, by decide⟩ X (Or.inl rfl) q1621 q1595 (q1597) (va_Decl.ofD (gf (args := args) X.1 X.2.1 q1594 rfl)) ⟨by decide, by decide⟩ q1620 q1619 (np_of (np_J23_equals)) rfl dJ4_putVal_91) (fun q h he hX => a_out (unc_of Z.2.1 rfl) Z.2.2.2.1 he hX) (fun v h hf => kk v h hf)
            rcases dv_someS hf with ⟨hk, hf⟩ | ⟨-, hf⟩
            · refine a_callb (pc := 91) (rs := []) (avs := [vR (some a91), vR x74]) Z.1 (w_J7_equals GA (some a91) x74) (Or.inl rfl) q1628 q84 (by decide) (by decide) dJ4_putVal_91 hl.1 (Nat.le_of_ble_eq_true rfl) hf (ct_U (x := ({ cls := "java/lang/Object", name := "equals", desc := "(Ljava/lang/Object;)Z" } : MethodName)) (owner := "java/lang/Object") hk ⟨by decide, by decide⟩ X (Or.inl rfl) q1628 q1595 (q1597) (va_Decl.ofD (gf (args := args) X.1 X.2.1 q1594 rfl)) ⟨by decide, by decide⟩ q1627 q1626 (np_of (np_J7_equals)) rfl dJ4_putVal_91) (fun q h he hX => a_out (unc_of Z.2.1 rfl) Z.2.2.2.1 he hX) (fun v h hf => kk v h hf)
            exact fl_none hf
          case kv91 =>
          intro x91 h hf
          refine AW.eq (g2 := F0 m 94 ls [.int x91]) rfl ?_
          refine AW.lift2 (fun _ _ _ _ k1 k2 => lv_if_eq (pc := 94) (tgt := 104) X.2.2.1 X.2.2.2.1 dJ4_putVal_94 rfl k1 k2) (fun c => ?_) (fun c => ?_)
          · have hf := ite_t c hf
            exact w_J4_putVal_j104 GA Z v0 v1 (some a91) v3 v4 v5 v6 x40   (hl.sub [3, 4, 5, 6, 7, 8, 9, 1] rfl) hf
          · have hf := ite_f c hf
            exact w_J4_putVal_j97 GA Z v0 v3 v4 v5 x40   (hl.sub [3, 6, 7, 8, 1] rfl) hf
    · have hf := ite_f c hf
      exact w_J4_putVal_j104 GA Z v0 v1 v2 v3 v4 v5 v6 x40   (hl.sub [2, 3, 4, 5, 6, 7, 8, 0] rfl) hf
  · have hf := ite_t c hf
    refine a_aload (pc := 47) X dJ4_putVal_47 hl 8 rfl ?_
    refine a_iload (pc := 49) X dJ4_putVal_49 hl 1 rfl ?_
    refine a_aload_n (pc := 51) X dJ4_putVal_51 rfl hl 2 rfl ?_
    refine a_iload_n (pc := 52) X dJ4_putVal_52 rfl hl 3 rfl ?_
    refine a_aload_n (pc := 53) X dJ4_putVal_53 rfl hl 4 rfl ?_
    refine a_aload_n (pc := 54) X dJ4_putVal_54 rfl hl 5 rfl ?_
    refine a_null (pc := 55) X dJ4_putVal_55 ?_
    obtain ⟨a56, rfl, ⟨hk, hf⟩ | ⟨-, hf⟩⟩ := dv_some hf
    rotate_left
    · exact fl_none hf
    refine a_callb (pc := 56) (rs := [vI ((v8 - (1 : Int32)) &&& v1), vR v6]) (avs := [vR (some a56), vI v1, vR v2, vR v3, vR none]) Z.1 (w_J4_newNode GA (some a56) v1 v2 v3 none) (Or.inl rfl) q1593 q81 (by decide) (by decide) dJ4_putVal_56 hl.1 (Nat.le_of_ble_eq_true rfl) hf (ct_V hk ⟨by decide, by decide⟩ X (Or.inl rfl) q1593 q1590 q1591 q1592 hy_J4_newNode np_J4_newNode rfl dJ4_putVal_56) (fun q h he hX => a_out (unc_of Z.2.1 rfl) Z.2.2.2.1 he hX) (fun x56 h hf => ?kk56)
    refine AW.eq (g2 := F0 m 59 ls [va_rf x56, .int ((v8 - (1 : Int32)) &&& v1), va_rf v6]) rfl ?_
    refine a_aastore (pc := 59) (t := 1007) (C := "java/util/HashMap$Node") (by decide) rfl X (cs_java_util_HashMap_Node GA) dJ4_putVal_59 hf (fun h hf => ?_)
    refine AW.lift (fun _ _ _ _ k => lv_goto (pc := 60) (tgt := 259) X.2.2.1 X.2.2.2.1 dJ4_putVal_60 rfl k) ?_
    exact w_J4_putVal_j259 GA Z (some a56) v5   (hl.sub [2, 7] rfl) hf
theorem w_J4_putVal_j19 {r : Except Nat (Option Nat) × AH} (GA : GA l s0 a0 K lam) (Z : WZ l s0 a0 K p s m c cJ4_putVal yJ4_putVal.cls 13 b R 3 68 meth [] (some (.object "java/lang/Object")) yJ4_putVal) (v0 : Option Nat) (v1 : Int32) (v2 : Option Nat) (v3 : Option Nat) (v4 : Int32) (v5 : Int32)   {h : AH} {ls : Array Slot} (hl : LV ls 13 [(0, vR v0), (1, vI v1), (2, vR v2), (3, vR v3), (4, vI v4), (5, vI v5)]) (hf : f_J4_putVal_j19 K v0 v1 v2 v3 v4 v5 h = some r) : AW s0 K lam p l e R s m args below meth c (AQ s0 K lam below oR b r s) b h (F0 m 19 ls []) := by
  unfold f_J4_putVal_j19 at hf
  have X := Z.1.1
  refine a_aload_n (pc := 19) X dJ4_putVal_19 rfl hl 0 rfl ?_
  obtain ⟨a20, rfl, ⟨hk, hf⟩ | ⟨-, hf⟩⟩ := dv_some hf
  rotate_left
  · exact fl_none hf
  refine a_callb (pc := 20) (rs := []) (avs := [vR (some a20)]) Z.1 (w_J4_resize GA (some a20)) (Or.inl rfl) q1157 q81 (by decide) (by decide) dJ4_putVal_20 hl.1 (Nat.le_of_ble_eq_true rfl) hf (ct_V hk ⟨by decide, by decide⟩ X (Or.inl rfl) q1157 q1154 q1155 q1156 hy_J4_resize np_J4_resize rfl dJ4_putVal_20) (fun q h he hX => a_out (unc_of Z.2.1 rfl) Z.2.2.2.1 he hX) (fun x20 h hf => ?kk20)
  refine AW.eq (g2 := F0 m 23 ls [va_rf x20]) rfl ?_
  refine AW.lift (fun _ _ _ _ k => lv_dup (pc := 23) X.2.2.1 X.2.2.2.1 dJ4_putVal_23 (cat_rf _) k) ?_
  refine a_astore (pc := 24) X dJ4_putVal_24 hl (by decide) (lv' := [(6, vR x20), (0, vR (some a20)), (1, vI v1), (2, vR v2), (3, vR v3), (4, vI v4), (5, vI v5)]) rfl (fun ls hl => ?_)
  refine a_arraylength (pc := 26) X dJ4_putVal_26 hf (fun x26 hf => ?_)
  refine a_istore (pc := 27) X dJ4_putVal_27 hl (by decide) (lv' := [(8, vI x26), (6, vR x20), (0, vR (some a20)), (1, vI v1), (2, vR v2), (3, vR v3), (4, vI v4), (5, vI v5)]) rfl (fun ls hl => ?_)
  exact w_J4_putVal_j29 GA Z (some a20) v1 v2 v3 v4 v5 x20 x26   (hl.sub [2, 3, 4, 5, 6, 7, 1, 0] rfl) hf
theorem np_J4_putVal : npar yJ4_putVal.desc 5 := by unfold npar; decide +kernel
theorem hy_J4_putVal : yJ4_putVal.cls ≠ "java/lang/invoke/MethodHandle" ∧ yJ4_putVal.cls ≠ "java/lang/invoke/VarHandle" := by decide +kernel
theorem w_J4_putVal (GA : GA l s0 a0 K lam) (v0 : Option Nat) (v1 : Int32) (v2 : Option Nat) (v3 : Option Nat) (v4 : Int32) (v5 : Int32) : AMet l s0 K lam yJ4_putVal (Cond.code yJ4_putVal cJ4_putVal (13 : Nat) (Option.some (ClassFile.FieldType.object "java/lang/Object"))) 3 68 [vR v0, vI v1, vR v2, vR v3, vI v4, vI v5] oR (f_J4_putVal K v0 v1 v2 v3 v4 v5) := by
  refine AMet.of GA.1 (plainFor_of_name (by decide +kernel)) (Nat.le_of_ble_eq_true rfl) ?_
  intro b r hf p e s m args below meth c X hr hlk hnm hnd ht ls hl
  have Z : WZ l s0 a0 K p s m c cJ4_putVal yJ4_putVal.cls 13 b { frames := 3, cells := K 0 - aX b, slots := K 1 - aW b, locals := 68 } 3 68 meth [] (some (.object "java/lang/Object")) yJ4_putVal := ⟨⟨X, GA.2.1, GA.2.2.1, rfl, rfl, Nat.le_refl _, Nat.le_refl _⟩, tab_nil ht, hr, hlk, hnm, hnd⟩
  unfold f_J4_putVal at hf
  clear hr hlk hnm hnd ht
  refine a_aload_n (pc := 0) X dJ4_putVal_0 rfl hl 0 rfl ?_
  refine a_get (pc := 1) (φ := 2800) pR_t X Z.1.2.1 (gw X.1 X.2.1 q198) (fun _ q => q) (by decide) dJ4_putVal_1 hf (fun x1 hf => ?_)
  refine AW.lift (fun _ _ _ _ k => lv_dup (pc := 4) X.2.2.1 X.2.2.2.1 dJ4_putVal_4 (cat_rf _) k) ?_
  refine a_astore (pc := 5) X dJ4_putVal_5 hl (by decide) (lv' := [(6, vR x1), (0, vR v0), (1, vI v1), (2, vR v2), (3, vR v3), (4, vI v4), (5, vI v5)]) rfl (fun ls hl => ?_)
  refine a_ifnull (pc := 7) (tgt := 19) X dJ4_putVal_7 rfl (fun c => ?_) (fun c => ?_)
  · have hf := ite_t c hf
    exact w_J4_putVal_j19 GA Z v0 v1 v2 v3 v4 v5   (hl.sub [1, 2, 3, 4, 5, 6] rfl) hf
  · have hf := ite_f c hf
    refine a_aload (pc := 10) X dJ4_putVal_10 hl 0 rfl ?_
    refine a_arraylength (pc := 12) X dJ4_putVal_12 hf (fun x12 hf => ?_)
    refine AW.lift (fun _ _ _ _ k => lv_dup (pc := 13) X.2.2.1 X.2.2.2.1 dJ4_putVal_13 rfl k) ?_
    refine a_istore (pc := 14) X dJ4_putVal_14 hl (by decide) (lv' := [(8, vI x12), (6, vR x1), (0, vR v0), (1, vI v1), (2, vR v2), (3, vR v3), (4, vI v4), (5, vI v5)]) rfl (fun ls hl => ?_)
    refine AW.lift2 (fun _ _ _ _ k1 k2 => lv_if_ne (pc := 16) (tgt := 29) X.2.2.1 X.2.2.2.1 dJ4_putVal_16 rfl k2 k1) (fun c => ?_) (fun c => ?_)
    · have hf := ite_t c hf
      exact w_J4_putVal_j19 GA Z v0 v1 v2 v3 v4 v5   (hl.sub [2, 3, 4, 5, 6, 7] rfl) hf
    · have hf := ite_f c hf
      exact w_J4_putVal_j29 GA Z v0 v1 v2 v3 v4 v5 x1 x12   (hl.sub [2, 3, 4, 5, 6, 7, 1, 0] rfl) hf
theorem w_J4_putMapEntries_b110 {r : Except Nat (Unit) × AH} (GA : GA l s0 a0 K lam) (Z : WZ l s0 a0 K p s m c cJ4_putMapEntries yJ4_putMapEntries.cls 8 b R 11 1123 meth [] none yJ4_putMapEntries) (v0 : Option Nat) (v2 : Int32) (v4 : Option Nat)  (rc110 : AM (Unit)) (hrc110 : ∀  (h : AH) (ls : Array Slot), LV ls 8 [(0, vR v0), (2, vI v2), (4, vR v4)] → rc110 h = some r → AW s0 K lam p l e R s m args below meth c (AQ s0 K lam below oV b r s) b h (F0 m 110 ls [])) {h : AH} {ls : Array Slot} (hl : LV ls 8 [(0, vR v0), (2, vI v2), (4, vR v4)]) (hf : f_J4_putMapEntries_b110 K rc110 v0 v2 v4 h = some r) : AW s0 K lam p l e R s m args below meth c (AQ s0 K lam below oV b r s) b h (F0 m 110 ls []) := by
  unfold f_J4_putMapEntries_b110 at hf
  have X := Z.1.1
  refine a_aload (pc := 110) X dJ4_putMapEntries_110 hl 2 rfl ?_
  obtain ⟨a112, rfl, ⟨hk, hf⟩ | ⟨-, hf⟩⟩ := dv_some hf
  rotate_left
  · exact fl_none hf
  refine a_callb (pc := 112) (rs := []) (avs := [vR (some a112)]) Z.1 (w_J25_hasNext GA (some a112)) (Or.inl rfl) q382 q109 (by decide) (by decide) dJ4_putMapEntries_112 hl.1 (Nat.le_of_ble_eq_true rfl) hf (ct_F (x := ({ cls := "java/util/Iterator", name := "hasNext", desc := "()Z" } : MethodName)) hk ⟨by decide, by decide⟩ X (Or.inl rfl) q382 q1459 (gf X.1 X.2.1 q370 rfl) (gf X.1 X.2.1 q369 rfl) (gf X.1 X.2.1 q381 rfl) (gf X.1 X.2.1 q379 rfl) (gf X.1 X.2.1 q377 rfl) q380 q378 ⟨by decide, by decide⟩ np_J25_hasNext rfl dJ4_putMapEntries_112) (fun q h he hX => a_out (unc_of Z.2.1 rfl) Z.2.2.2.1 he hX) (fun x112 h hf => ?kk112)
  refine AW.eq (g2 := F0 m 117 ls [.int x112]) rfl ?_
  refine AW.lift2 (fun _ _ _ _ k1 k2 => lv_if_eq (pc := 117) (tgt := 169) X.2.2.1 X.2.2.2.1 dJ4_putMapEntries_117 rfl k1 k2) (fun c => ?_) (fun c => ?_)
  · have hf := ite_t c hf
    exact a_return X Z.2.2.1 Z.2.2.2.1 dJ4_putMapEntries_169 hf
  · have hf := ite_f c hf
    refine a_aload (pc := 120) X dJ4_putMapEntries_120 hl 2 rfl ?_
    rcases dv_someS hf with ⟨hk, hf⟩ | ⟨-, hf⟩
    rotate_left
    · exact fl_none hf
    refine a_callb (pc := 122) (rs := []) (avs := [vR (some a112)]) Z.1 (w_J26_next GA (some a112)) (Or.inl rfl) q478 q110 (by decide) (by decide) dJ4_putMapEntries_122 hl.1 (Nat.le_of_ble_eq_true rfl) hf (ct_F (x := ({ cls := "java/util/Iterator", name := "next", desc := "()Ljava/lang/Object;" } : MethodName)) hk ⟨by decide, by decide⟩ X (Or.inl rfl) q478 q1461 (gf X.1 X.2.1 q392 rfl) (gf X.1 X.2.1 q391 rfl) (gf X.1 X.2.1 q477 rfl) (gf X.1 X.2.1 q475 rfl) (gf X.1 X.2.1 q377 rfl) q476 q474 ⟨by decide, by decide⟩ np_J26_next rfl dJ4_putMapEntries_122) (fun q h he hX => a_out (unc_of Z.2.1 rfl) Z.2.2.2.1 he hX) (fun x122 h hf => ?kk122)
    refine AW.eq (g2 := F0 m 127 ls [va_rf x122]) rfl ?_
    refine a_checkcast (pc := 127) X (gw X.1 X.2.1 q1462) (cs_java_util_Map_Entry GA) dJ4_putMapEntries_127 hf (fun hf => ?_)
    refine a_astore (pc := 130) X dJ4_putMapEntries_130 hl (by decide) (lv' := [(5, vR x122), (0, vR v0), (2, vI v2), (4, vR (some a112))]) rfl (fun ls hl => ?_)
    refine a_aload (pc := 132) X dJ4_putMapEntries_132 hl 0 rfl ?_
    obtain ⟨a134, rfl, ⟨hk, hf⟩ | ⟨-, hf⟩⟩ := dv_some hf
    rotate_left
    · exact fl_none hf
    refine a_callb (pc := 134) (rs := []) (avs := [vR (some a134)]) Z.1 (w_J29_getKey GA (some a134)) (Or.inl rfl) q1472 q114 (by decide) (by decide) dJ4_putMapEntries_134 hl.1 (Nat.le_of_ble_eq_true rfl) hf (ct_F (x := ({ cls := "java/util/Map$Entry", name := "getKey", desc := "()Ljava/lang/Object;" } : MethodName)) hk ⟨by decide, by decide⟩ X (Or.inl rfl) q1472 q1464 (gf X.1 X.2.1 q1466 rfl) (gf X.1 X.2.1 q1465 rfl) (gf X.1 X.2.1 q1471 rfl) (gf X.1 X.2.1 q1469 rfl) (gf X.1 X.2.1 q1467 rfl) q1470 q1468 ⟨by decide, by decide⟩ np_J29_getKey rfl dJ4_putMapEntries_134) (fun q h he hX => a_out (unc_of Z.2.1 rfl) Z.2.2.2.1 he hX) (fun x134 h hf => ?kk134)
    refine AW.eq (g2 := F0 m 139 ls [va_rf x134]) rfl ?_
    refine a_astore (pc := 139) X dJ4_putMapEntries_139 hl (by decide) (lv' := [(6, vR x134), (5, vR (some a134)), (0, vR v0), (2, vI v2), (4, vR (some a112))]) rfl (fun ls hl => ?_)
    refine a_aload (pc := 141) X dJ4_putMapEntries_141 hl 1 rfl ?_
    rcases dv_someS hf with ⟨hk, hf⟩ | ⟨-, hf⟩
    rotate_left
    · exact fl_none hf
    refine a_callb (pc := 143) (rs := []) (avs := [vR (some a134)]) Z.1 (w_J29_getValue GA (some a134)) (Or.inl rfl) q1484 q114 (by decide) (by decide) dJ4_putMapEntries_143 hl.1 (Nat.le_of_ble_eq_true rfl) hf (ct_F (x := ({ cls := "java/util/Map$Entry", name := "getValue", desc := "()Ljava/lang/Object;" } : MethodName)) hk ⟨by decide, by decide⟩ X (Or.inl rfl) q1484 q1477 (gf X.1 X.2.1 q1479 rfl) (gf X.1 X.2.1 q1478 rfl) (gf X.1 X.2.1 q1483 rfl) (gf X.1 X.2.1 q1481 rfl) (gf X.1 X.2.1 q1467 rfl) q1482 q1480 ⟨by decide, by decide⟩ np_J29_getValue rfl dJ4_putMapEntries_143) (fun q h he hX => a_out (unc_of Z.2.1 rfl) Z.2.2.2.1 he hX) (fun x143 h hf => ?kk143)
    refine AW.eq (g2 := F0 m 148 ls [va_rf x143]) rfl ?_
    refine a_astore (pc := 148) X dJ4_putMapEntries_148 hl (by decide) (lv' := [(7, vR x143), (6, vR x134), (5, vR (some a134)), (0, vR v0), (2, vI v2), (4, vR (some a112))]) rfl (fun ls hl => ?_)
    refine a_aload_n (pc := 150) X dJ4_putMapEntries_150 rfl hl 3 rfl ?_
    refine a_aload (pc := 151) X dJ4_putMapEntries_151 hl 1 rfl ?_
    refine a_callb (pc := 153) (rs := [vR v0]) (avs := [vR x134]) Z.1 (w_J4_hash GA x134) (Or.inl rfl) q1489 q81 (by decide) (by decide) dJ4_putMapEntries_153 hl.1 (Nat.le_of_ble_eq_true rfl) hf (ct_S X (Or.inl rfl) q1489 q81 q1487 q1488 hy_J4_hash np_J4_hash rfl dJ4_putMapEntries_153) (fun q h he hX => a_out (unc_of Z.2.1 rfl) Z.2.2.2.1 he hX) (fun x153 h hf => ?kk153)
    refine AW.eq (g2 := F0 m 156 ls [.int x153, va_rf v0]) rfl ?_
    refine a_aload (pc := 156) X dJ4_putMapEntries_156 hl 1 rfl ?_
    refine a_aload (pc := 158) X dJ4_putMapEntries_158 hl 0 rfl ?_
    refine AW.lift (fun _ _ _ _ k => lv_iconst (pc := 160) (v := (0 : Int32)) X.2.2.1 X.2.2.2.1 dJ4_putMapEntries_160 rfl k) ?_
    refine a_iload_n (pc := 161) X dJ4_putMapEntries_161 rfl hl 4 rfl ?_
    obtain ⟨a162, rfl, ⟨hk, hf⟩ | ⟨-, hf⟩⟩ := dv_some hf
    rotate_left
    · exact fl_none hf
    refine a_callb (pc := 162) (rs := []) (avs := [vR (some a162), vI x153, vR x134, vR x143, vI (0 : Int32), vI v2]) Z.1 (w_J4_putVal GA (some a162) x153 x134 x143 (0 : Int32) v2) (Or.inl rfl) q1589 q81 (by decide) (by decide) dJ4_putMapEntries_162 hl.1 (Nat.le_of_ble_eq_true rfl) hf (ct_V hk ⟨by decide, by decide⟩ X (Or.inl rfl) q1589 q1586 q1587 q1588 hy_J4_putVal np_J4_putVal rfl dJ4_putMapEntries_162) (fun q h he hX => a_out (unc_of Z.2.1 rfl) Z.2.2.2.1 he hX) (fun x162 h hf => ?kk162)
    refine AW.eq (g2 := F0 m 165 ls [va_rf x162]) rfl ?_
    refine AW.lift (fun _ _ _ _ k => lv_pop (pc := 165) X.2.2.1 X.2.2.2.1 dJ4_putMapEntries_165 (cat_rf _) k) ?_
    refine AW.lift (fun _ _ _ _ k => lv_goto (pc := 166) (tgt := 110) X.2.2.1 X.2.2.2.1 dJ4_putMapEntries_166 rfl k) ?_
    exact hrc110  _ _ (hl.sub [3, 4, 5] rfl) hf
theorem w_J4_putMapEntries_l110 {r : Except Nat (Unit) × AH} (GA : GA l s0 a0 K lam) (Z : WZ l s0 a0 K p s m c cJ4_putMapEntries yJ4_putMapEntries.cls 8 b R 11 1123 meth [] none yJ4_putMapEntries) (v0 : Option Nat) (v2 : Int32) (v4 : Option Nat)  : ∀ (n : Nat)  (h : AH) (ls : Array Slot), LV ls 8 [(0, vR v0), (2, vI v2), (4, vR v4)] → f_J4_putMapEntries_l110 K v0 v2 v4 n  h = some r → AW s0 K lam p l e R s m args below meth c (AQ s0 K lam below oV b r s) b h (F0 m 110 ls []) := by
  intro n
  induction n with
  | zero => intro  h ls hl hf; exact fl_no (h := h) hf
  | succ n ih => intro  h ls hl hf; exact w_J4_putMapEntries_b110 GA Z v0 v2 v4 (f_J4_putMapEntries_l110 K v0 v2 v4 n) ih hl hf
theorem w_J4_putMapEntries_j97 {r : Except Nat (Unit) × AH} (GA : GA l s0 a0 K lam) (Z : WZ l s0 a0 K p s m c cJ4_putMapEntries yJ4_putMapEntries.cls 8 b R 11 1123 meth [] none yJ4_putMapEntries) (v0 : Option Nat) (v1 : Option Nat) (v2 : Int32)   {h : AH} {ls : Array Slot} (hl : LV ls 8 [(0, vR v0), (1, vR v1), (2, vI v2)]) (hf : f_J4_putMapEntries_j97 K v0 v1 v2 h = some r) : AW s0 K lam p l e R s m args below meth c (AQ s0 K lam below oV b r s) b h (F0 m 97 ls []) := by
  unfold f_J4_putMapEntries_j97 at hf
  have X := Z.1.1
  refine a_aload_n (pc := 97) X dJ4_putMapEntries_97 rfl hl 1 rfl ?_
  obtain ⟨a98, rfl, ⟨hk, hf⟩ | ⟨-, hf⟩⟩ := dv_some hf
  rotate_left
  · exact fl_none hf
  refine a_callb (pc := 98) (rs := []) (avs := [vR (some a98)]) Z.1 (w_J4_entrySet GA (some a98)) (Or.inl rfl) q1436 q81 (by decide) (by decide) dJ4_putMapEntries_98 hl.1 (Nat.le_of_ble_eq_true rfl) hf (ct_F (x := ({ cls := "java/util/Map", name := "entrySet", desc := "()Ljava/util/Set;" } : MethodName)) hk ⟨by decide, by decide⟩ X (Or.inl rfl) q1436 q1429 (gf X.1 X.2.1 q1431 rfl) (gf X.1 X.2.1 q1430 rfl) (gf X.1 X.2.1 q1435 rfl) (gf X.1 X.2.1 q1433 rfl) (gf X.1 X.2.1 q1113 rfl) q1434 q1432 ⟨by decide, by decide⟩ np_J4_entrySet rfl dJ4_putMapEntries_98) (fun q h he hX => a_out (unc_of Z.2.1 rfl) Z.2.2.2.1 he hX) (fun x98 h hf => ?kk98)
  refine AW.eq (g2 := F0 m 103 ls [va_rf x98]) rfl ?_
  obtain ⟨a103, rfl, ⟨hk, hf⟩ | ⟨-, hf⟩⟩ := dv_some hf
  rotate_left
  · exact fl_none hf
  refine a_callb (pc := 103) (rs := []) (avs := [vR (some a103)]) Z.1 (w_J35_iterator GA (some a103)) (Or.inl rfl) q1022 q121 (by decide) (by decide) dJ4_putMapEntries_103 hl.1 (Nat.le_of_ble_eq_true rfl) hf (ct_F (x := ({ cls := "java/util/Set", name := "iterator", desc := "()Ljava/util/Iterator;" } : MethodName)) hk ⟨by decide, by decide⟩ X (Or.inl rfl) q1022 q1451 (gf X.1 X.2.1 q1453 rfl) (gf X.1 X.2.1 q1452 rfl) (gf X.1 X.2.1 q1457 rfl) (gf X.1 X.2.1 q1456 rfl) (gf X.1 X.2.1 q1454 rfl) q1021 q1455 ⟨by decide, by decide⟩ np_J35_iterator rfl dJ4_putMapEntries_103) (fun q h he hX => a_out (unc_of Z.2.1 rfl) Z.2.2.2.1 he hX) (fun x103 h hf => ?kk103)
  refine AW.eq (g2 := F0 m 108 ls [va_rf x103]) rfl ?_
  refine a_astore (pc := 108) X dJ4_putMapEntries_108 hl (by decide) (lv' := [(4, vR x103), (0, vR v0), (1, vR (some a98)), (2, vI v2)]) rfl (fun ls hl => ?_)
  exact w_J4_putMapEntries_l110 GA Z v0 v2 x103  FU  _ _ (hl.sub [1, 3, 0] rfl) hf
theorem w_J4_putMapEntries_j68 {r : Except Nat (Unit) × AH} (GA : GA l s0 a0 K lam) (Z : WZ l s0 a0 K p s m c cJ4_putMapEntries yJ4_putMapEntries.cls 8 b R 11 1123 meth [] none yJ4_putMapEntries) (v0 : Option Nat) (v1 : Option Nat) (v2 : Int32)   {h : AH} {ls : Array Slot} (hl : LV ls 8 [(0, vR v0), (1, vR v1), (2, vI v2)]) (hf : f_J4_putMapEntries_j68 K v0 v1 v2 h = some r) : AW s0 K lam p l e R s m args below meth c (AQ s0 K lam below oV b r s) b h (F0 m 68 ls []) := by
  unfold f_J4_putMapEntries_j68 at hf
  have X := Z.1.1
  refine AW.lift (fun _ _ _ _ k => lv_goto (pc := 68) (tgt := 97) X.2.2.1 X.2.2.2.1 dJ4_putMapEntries_68 rfl k) ?_
  exact w_J4_putMapEntries_j97 GA Z v0 v1 v2   (hl.sub [0, 1, 2] rfl) hf
theorem w_J4_putMapEntries_j48 {r : Except Nat (Unit) × AH} (GA : GA l s0 a0 K lam) (Z : WZ l s0 a0 K p s m c cJ4_putMapEntries yJ4_putMapEntries.cls 8 b R 11 1123 meth [] none yJ4_putMapEntries) (v0 : Option Nat) (v1 : Option Nat) (v2 : Int32) (t0 : Int32)  {h : AH} {ls : Array Slot} (hl : LV ls 8 [(0, vR v0), (1, vR v1), (2, vI v2)]) (hf : f_J4_putMapEntries_j48 K v0 v1 v2 t0 h = some r) : AW s0 K lam p l e R s m args below meth c (AQ s0 K lam below oV b r s) b h (F0 m 48 ls [.int t0]) := by
  unfold f_J4_putMapEntries_j48 at hf
  have X := Z.1.1
  refine a_istore (pc := 48) X dJ4_putMapEntries_48 hl (by decide) (lv' := [(6, vI t0), (0, vR v0), (1, vR v1), (2, vI v2)]) rfl (fun ls hl => ?_)
  refine a_iload (pc := 50) X dJ4_putMapEntries_50 hl 0 rfl ?_
  refine a_aload_n (pc := 52) X dJ4_putMapEntries_52 rfl hl 1 rfl ?_
  refine a_get (pc := 53) (φ := 2804) pI_t X Z.1.2.1 (gw X.1 X.2.1 q205) (fun _ q => q) (by decide) dJ4_putMapEntries_53 hf (fun x53 hf => ?_)
  refine AW.lift2 (fun _ _ _ _ k1 k2 => lv_icmp_le (pc := 56) (tgt := 68) X.2.2.1 X.2.2.2.1 dJ4_putMapEntries_56 rfl k1 k2) (fun c => ?_) (fun c => ?_)
  · have hf := ite_t c hf
    exact w_J4_putMapEntries_j68 GA Z v0 v1 v2   (hl.sub [1, 2, 3] rfl) hf
  · have hf := ite_f c hf
    refine a_aload_n (pc := 59) X dJ4_putMapEntries_59 rfl hl 1 rfl ?_
    refine a_iload (pc := 60) X dJ4_putMapEntries_60 hl 0 rfl ?_
    refine a_callb (pc := 62) (rs := [vR v0]) (avs := [vI t0]) Z.1 (w_J4_tableSizeFor GA t0) (Or.inl rfl) q1149 q81 (by decide) (by decide) dJ4_putMapEntries_62 hl.1 (Nat.le_of_ble_eq_true rfl) hf (ct_S X (Or.inl rfl) q1149 q81 q1147 q1148 hy_J4_tableSizeFor np_J4_tableSizeFor rfl dJ4_putMapEntries_62) (fun q h he hX => a_out (unc_of Z.2.1 rfl) Z.2.2.2.1 he hX) (fun x62 h hf => ?kk62)
    refine AW.eq (g2 := F0 m 65 ls [.int x62, va_rf v0]) rfl ?_
    refine a_put (pc := 65) (φ := 2804) X Z.1.2.1 Z.1.2.2.1 (gw X.1 X.2.1 q205) (fun _ q => q) (by decide) rfl rfl dJ4_putMapEntries_65 hf (fun h hf => ?_)
    exact w_J4_putMapEntries_j68 GA Z v0 v1 v2   (hl.sub [1, 2, 3] rfl) hf
theorem w_J4_putMapEntries_b71 {r : Except Nat (Unit) × AH} (GA : GA l s0 a0 K lam) (Z : WZ l s0 a0 K p s m c cJ4_putMapEntries yJ4_putMapEntries.cls 8 b R 11 1123 meth [] none yJ4_putMapEntries) (v0 : Option Nat) (v1 : Option Nat) (v2 : Int32) (v3 : Int32)  (rc71 : AM (Unit)) (hrc71 : ∀  (h : AH) (ls : Array Slot), LV ls 8 [(0, vR v0), (1, vR v1), (2, vI v2), (3, vI v3)] → rc71 h = some r → AW s0 K lam p l e R s m args below meth c (AQ s0 K lam below oV b r s) b h (F0 m 71 ls [])) {h : AH} {ls : Array Slot} (hl : LV ls 8 [(0, vR v0), (1, vR v1), (2, vI v2), (3, vI v3)]) (hf : f_J4_putMapEntries_b71 K rc71 v0 v1 v2 v3 h = some r) : AW s0 K lam p l e R s m args below meth c (AQ s0 K lam below oV b r s) b h (F0 m 71 ls []) := by
  unfold f_J4_putMapEntries_b71 at hf
  have X := Z.1.1
  refine a_iload_n (pc := 71) X dJ4_putMapEntries_71 rfl hl 3 rfl ?_
  refine a_aload_n (pc := 72) X dJ4_putMapEntries_72 rfl hl 0 rfl ?_
  refine a_get (pc := 73) (φ := 2804) pI_t X Z.1.2.1 (gw X.1 X.2.1 q205) (fun _ q => q) (by decide) dJ4_putMapEntries_73 hf (fun x73 hf => ?_)
  refine AW.lift2 (fun _ _ _ _ k1 k2 => lv_icmp_le (pc := 76) (tgt := 97) X.2.2.1 X.2.2.2.1 dJ4_putMapEntries_76 rfl k1 k2) (fun c => ?_) (fun c => ?_)
  · have hf := ite_t c hf
    exact w_J4_putMapEntries_j97 GA Z v0 v1 v2   (hl.sub [0, 1, 2] rfl) hf
  · have hf := ite_f c hf
    refine a_aload_n (pc := 79) X dJ4_putMapEntries_79 rfl hl 0 rfl ?_
    refine a_get (pc := 80) (φ := 2800) pR_t X Z.1.2.1 (gw X.1 X.2.1 q198) (fun _ q => q) (by decide) dJ4_putMapEntries_80 hf (fun x80 hf => ?_)
    refine a_arraylength (pc := 83) X dJ4_putMapEntries_83 hf (fun x83 hf => ?_)
    refine AW.lift (fun _ _ _ _ k => lv_ldc (pc := 84) X.2.2.1 X.2.2.2.1 X.2.2.2.2.1 (gw X.1 X.2.1 q1146) dJ4_putMapEntries_84 k) ?_
    refine AW.lift2 (fun _ _ _ _ k1 k2 => lv_icmp_ge (pc := 86) (tgt := 97) X.2.2.1 X.2.2.2.1 dJ4_putMapEntries_86 rfl k1 k2) (fun c => ?_) (fun c => ?_)
    · have hf := ite_t c hf
      exact w_J4_putMapEntries_j97 GA Z v0 v1 v2   (hl.sub [0, 1, 2] rfl) hf
    · have hf := ite_f c hf
      refine a_aload_n (pc := 89) X dJ4_putMapEntries_89 rfl hl 0 rfl ?_
      obtain ⟨a90, rfl, ⟨hk, hf⟩ | ⟨-, hf⟩⟩ := dv_some hf
      rotate_left
      · exact fl_none hf
      refine a_callb (pc := 90) (rs := []) (avs := [vR (some a90)]) Z.1 (w_J4_resize GA (some a90)) (Or.inl rfl) q1157 q81 (by decide) (by decide) dJ4_putMapEntries_90 hl.1 (Nat.le_of_ble_eq_true rfl) hf (ct_V hk ⟨by decide, by decide⟩ X (Or.inl rfl) q1157 q1154 q1155 q1156 hy_J4_resize np_J4_resize rfl dJ4_putMapEntries_90) (fun q h he hX => a_out (unc_of Z.2.1 rfl) Z.2.2.2.1 he hX) (fun x90 h hf => ?kk90)
      refine AW.eq (g2 := F0 m 93 ls [va_rf x90]) rfl ?_
      refine AW.lift (fun _ _ _ _ k => lv_pop (pc := 93) X.2.2.1 X.2.2.2.1 dJ4_putMapEntries_93 (cat_rf _) k) ?_
      refine AW.lift (fun _ _ _ _ k => lv_goto (pc := 94) (tgt := 71) X.2.2.1 X.2.2.2.1 dJ4_putMapEntries_94 rfl k) ?_
      exact hrc71  _ _ (hl.sub [0, 1, 2, 3] rfl) hf
theorem w_J4_putMapEntries_l71 {r : Except Nat (Unit) × AH} (GA : GA l s0 a0 K lam) (Z : WZ l s0 a0 K p s m c cJ4_putMapEntries yJ4_putMapEntries.cls 8 b R 11 1123 meth [] none yJ4_putMapEntries) (v0 : Option Nat) (v1 : Option Nat) (v2 : Int32) (v3 : Int32)  : ∀ (n : Nat)  (h : AH) (ls : Array Slot), LV ls 8 [(0, vR v0), (1, vR v1), (2, vI v2), (3, vI v3)] → f_J4_putMapEntries_l71 K v0 v1 v2 v3 n  h = some r → AW s0 K lam p l e R s m args below meth c (AQ s0 K lam below oV b r s) b h (F0 m 71 ls []) := by
  intro n
  induction n with
  | zero => intro  h ls hl hf; exact fl_no (h := h) hf
  | succ n ih => intro  h ls hl hf; exact w_J4_putMapEntries_b71 GA Z v0 v1 v2 v3 (f_J4_putMapEntries_l71 K v0 v1 v2 v3 n) ih hl hf
theorem np_J4_putMapEntries : npar yJ4_putMapEntries.desc 2 := by unfold npar; decide +kernel
theorem hy_J4_putMapEntries : yJ4_putMapEntries.cls ≠ "java/lang/invoke/MethodHandle" ∧ yJ4_putMapEntries.cls ≠ "java/lang/invoke/VarHandle" := by decide +kernel
theorem w_J4_putMapEntries (GA : GA l s0 a0 K lam) (v0 : Option Nat) (v1 : Option Nat) (v2 : Int32) : AMet l s0 K lam yJ4_putMapEntries (Cond.code yJ4_putMapEntries cJ4_putMapEntries (8 : Nat) (Option.none : Option ClassFile.FieldType)) 11 1123 [vR v0, vR v1, vI v2] oV (f_J4_putMapEntries K v0 v1 v2) := by
  refine AMet.of GA.1 (plainFor_of_name (by decide +kernel)) (Nat.le_of_ble_eq_true rfl) ?_
  intro b r hf p e s m args below meth c X hr hlk hnm hnd ht ls hl
  have Z : WZ l s0 a0 K p s m c cJ4_putMapEntries yJ4_putMapEntries.cls 8 b { frames := 11, cells := K 0 - aX b, slots := K 1 - aW b, locals := 1123 } 11 1123 meth [] none yJ4_putMapEntries := ⟨⟨X, GA.2.1, GA.2.2.1, rfl, rfl, Nat.le_refl _, Nat.le_refl _⟩, tab_nil ht, hr, hlk, hnm, hnd⟩
  unfold f_J4_putMapEntries at hf
  clear hr hlk hnm hnd ht
  refine a_aload_n (pc := 0) X dJ4_putMapEntries_0 rfl hl 1 rfl ?_
  obtain ⟨a1, rfl, ⟨hk, hf⟩ | ⟨-, hf⟩⟩ := dv_some hf
  rotate_left
  · exact fl_none hf
  refine a_callb (pc := 1) (rs := []) (avs := [vR (some a1)]) Z.1 (w_J4_size GA (some a1)) (Or.inl rfl) q1118 q81 (by decide) (by decide) dJ4_putMapEntries_1 hl.1 (Nat.le_of_ble_eq_true rfl) hf (ct_F (x := ({ cls := "java/util/Map", name := "size", desc := "()I" } : MethodName)) hk ⟨by decide, by decide⟩ X (Or.inl rfl) q1118 q1110 (gf X.1 X.2.1 q1112 rfl) (gf X.1 X.2.1 q1111 rfl) (gf X.1 X.2.1 q1117 rfl) (gf X.1 X.2.1 q1115 rfl) (gf X.1 X.2.1 q1113 rfl) q1116 q1114 ⟨by decide, by decide⟩ np_J4_size rfl dJ4_putMapEntries_1) (fun q h he hX => a_out (unc_of Z.2.1 rfl) Z.2.2.2.1 he hX) (fun x1 h hf => ?kk1)
  refine AW.eq (g2 := F0 m 6 ls [.int x1]) rfl ?_
  refine a_istore_n (pc := 6) X dJ4_putMapEntries_6 rfl hl (by decide) (lv' := [(3, vI x1), (0, vR v0), (1, vR (some a1)), (2, vI v2)]) rfl (fun ls hl => ?_)
  refine a_iload_n (pc := 7) X dJ4_putMapEntries_7 rfl hl 0 rfl ?_
  refine AW.lift2 (fun _ _ _ _ k1 k2 => lv_if_le (pc := 8) (tgt := 169) X.2.2.1 X.2.2.2.1 dJ4_putMapEntries_8 rfl k1 k2) (fun c => ?_) (fun c => ?_)
  · have hf := ite_t c hf
    exact a_return X Z.2.2.1 Z.2.2.2.1 dJ4_putMapEntries_169 hf
  · have hf := ite_f c hf
    refine a_aload_n (pc := 11) X dJ4_putMapEntries_11 rfl hl 1 rfl ?_
    refine a_get (pc := 12) (φ := 2800) pR_t X Z.1.2.1 (gw X.1 X.2.1 q198) (fun _ q => q) (by decide) dJ4_putMapEntries_12 hf (fun x12 hf => ?_)
    refine a_ifnonnull (pc := 15) (tgt := 71) X dJ4_putMapEntries_15 rfl (fun c => ?_) (fun c => ?_)
    · have hf := ite_f c hf
      exact w_J4_putMapEntries_l71 GA Z v0 (some a1) v2 x1  FU  _ _ (hl.sub [1, 2, 3, 0] rfl) hf
    · have hf := ite_t c hf
      refine a_iload_n (pc := 18) X dJ4_putMapEntries_18 rfl hl 0 rfl ?_
      refine AW.lift (fun _ _ _ _ k => lv_i2d (pc := 19) X.2.2.1 X.2.2.2.1 dJ4_putMapEntries_19 k) ?_
      refine a_aload_n (pc := 20) X dJ4_putMapEntries_20 rfl hl 1 rfl ?_
      refine a_get (pc := 21) (φ := 2805) pF_t X Z.1.2.1 (gw X.1 X.2.1 q206) (fun _ q => q) (by decide) dJ4_putMapEntries_21 hf (fun x21 hf => ?_)
      obtain ⟨hg, hf⟩ := chk_some hf
      refine AW.lift (fun _ _ _ _ k => lv_f2d (pc := 24) X.2.2.1 X.2.2.2.1 dJ4_putMapEntries_24 (n64 hg) k) ?_
      obtain ⟨hg, hf⟩ := chk_some hf
      refine AW.lift (fun _ _ _ _ k => lv_ddiv (pc := 25) X.2.2.1 X.2.2.2.1 dJ4_putMapEntries_25 (n64 hg) k) ?_
      refine a_ceil (pc := 26) (rs := []) Z.1 (w_J28_ceil GA (FP.ddiv (FP.i2d x1) (FP.f2d x21))) rfl q1124 q112 q1121 q93 q1119 q1120 (by decide) (by decide) hl.1 (Nat.le_of_ble_eq_true rfl) rfl dJ4_putMapEntries_26 hf (fun x26 h hf => ?_)
      refine AW.eq (g2 := F0 m 29 ls [.double x26]) rfl ?_
      refine a_dstore (pc := 29) X dJ4_putMapEntries_29 hl (by decide) (lv' := [(4, vD x26), (3, vI x1), (0, vR v0), (1, vR (some a1)), (2, vI v2)]) rfl (fun ls hl => ?_)
      refine a_dload (pc := 31) X dJ4_putMapEntries_31 hl 0 rfl ?_
      refine AW.lift (fun _ _ _ _ k => lv_ldc2d (pc := 33) X.2.2.1 X.2.2.2.1 X.2.2.2.2.1 (gw X.1 X.2.1 q1145) dJ4_putMapEntries_33 k) ?_
      refine AW.lift (fun _ _ _ _ k => lv_dcmp (pc := 36) X.2.2.1 X.2.2.2.1 dJ4_putMapEntries_36 k) ?_
      refine AW.lift2 (fun _ _ _ _ k1 k2 => lv_if_ge (pc := 37) (tgt := 46) X.2.2.1 X.2.2.2.1 dJ4_putMapEntries_37 rfl k1 k2) (fun c => ?_) (fun c => ?_)
      · have hf := ite_t c hf
        refine AW.lift (fun _ _ _ _ k => lv_ldc (pc := 46) X.2.2.1 X.2.2.2.1 X.2.2.2.2.1 (gw X.1 X.2.1 q1146) dJ4_putMapEntries_46 k) ?_
        exact w_J4_putMapEntries_j48 GA Z v0 (some a1) v2 (1073741824 : Int32)  (hl.sub [2, 3, 4] rfl) hf
      · have hf := ite_f c hf
        refine a_dload (pc := 40) X dJ4_putMapEntries_40 hl 0 rfl ?_
        refine AW.lift (fun _ _ _ _ k => lv_d2i (pc := 42) X.2.2.1 X.2.2.2.1 dJ4_putMapEntries_42 k) ?_
        refine AW.lift (fun _ _ _ _ k => lv_goto (pc := 43) (tgt := 48) X.2.2.1 X.2.2.2.1 dJ4_putMapEntries_43 rfl k) ?_
        exact w_J4_putMapEntries_j48 GA Z v0 (some a1) v2 (FP.d2i x26)  (hl.sub [2, 3, 4] rfl) hf
theorem np_J4_putAll : npar yJ4_putAll.desc 1 := by unfold npar; decide +kernel
theorem hy_J4_putAll : yJ4_putAll.cls ≠ "java/lang/invoke/MethodHandle" ∧ yJ4_putAll.cls ≠ "java/lang/invoke/VarHandle" := by decide +kernel
theorem w_J4_putAll (GA : GA l s0 a0 K lam) (v0 : Option Nat) (v1 : Option Nat) : AMet l s0 K lam yJ4_putAll (Cond.code yJ4_putAll cJ4_putAll (2 : Nat) (Option.none : Option ClassFile.FieldType)) 12 1150 [vR v0, vR v1] oV (f_J4_putAll K v0 v1) := by
  refine AMet.of GA.1 (plainFor_of_name (by decide +kernel)) (Nat.le_of_ble_eq_true rfl) ?_
  intro b r hf p e s m args below meth c X hr hlk hnm hnd ht ls hl
  have Z : WZ l s0 a0 K p s m c cJ4_putAll yJ4_putAll.cls 2 b { frames := 12, cells := K 0 - aX b, slots := K 1 - aW b, locals := 1150 } 12 1150 meth [] none yJ4_putAll := ⟨⟨X, GA.2.1, GA.2.2.1, rfl, rfl, Nat.le_refl _, Nat.le_refl _⟩, tab_nil ht, hr, hlk, hnm, hnd⟩
  unfold f_J4_putAll at hf
  clear hr hlk hnm hnd ht
  refine a_aload_n (pc := 0) X dJ4_putAll_0 rfl hl 0 rfl ?_
  refine a_aload_n (pc := 1) X dJ4_putAll_1 rfl hl 1 rfl ?_
  refine AW.lift (fun _ _ _ _ k => lv_iconst (pc := 2) (v := (1 : Int32)) X.2.2.1 X.2.2.2.1 dJ4_putAll_2 rfl k) ?_
  obtain ⟨a3, rfl, ⟨hk, hf⟩ | ⟨-, hf⟩⟩ := dv_some hf
  rotate_left
  · exact fl_none hf
  refine a_callb (pc := 3) (rs := []) (avs := [vR (some a3), vR v1, vI (1 : Int32)]) Z.1 (w_J4_putMapEntries GA (some a3) v1 (1 : Int32)) (Or.inl rfl) q1108 q81 (by decide) (by decide) dJ4_putAll_3 hl.1 (Nat.le_of_ble_eq_true rfl) hf (ct_V hk ⟨by decide, by decide⟩ X (Or.inl rfl) q1108 q1105 q1106 q1107 hy_J4_putMapEntries np_J4_putMapEntries rfl dJ4_putAll_3) (fun q h he hX => a_out (unc_of Z.2.1 rfl) Z.2.2.2.1 he hX) (fun _ h hf => ?kk3)
  refine AW.eq (g2 := F0 m 6 ls []) rfl ?_
  exact a_return X Z.2.2.1 Z.2.2.2.1 dJ4_putAll_6 hf
theorem np_X3_copy : npar yX3_copy.desc 0 := by unfold npar; decide +kernel
theorem hy_X3_copy : yX3_copy.cls ≠ "java/lang/invoke/MethodHandle" ∧ yX3_copy.cls ≠ "java/lang/invoke/VarHandle" := by decide +kernel
theorem w_X3_copy (GA : GA l s0 a0 K lam) (v0 : Option Nat) : AMet l s0 K lam yX3_copy (Cond.code yX3_copy cX3_copy (2 : Nat) (Option.some (ClassFile.FieldType.object "JumpHall$Shelf"))) 13 1171 [vR v0] oR (f_X3_copy K v0) := by
  refine AMet.of GA.1 (plainFor_of_name (by decide +kernel)) (Nat.le_of_ble_eq_true rfl) ?_
  intro b r hf p e s m args below meth c X hr hlk hnm hnd ht ls hl
  have Z : WZ l s0 a0 K p s m c cX3_copy yX3_copy.cls 2 b { frames := 13, cells := K 0 - aX b, slots := K 1 - aW b, locals := 1171 } 13 1171 meth [] (some (.object "JumpHall$Shelf")) yX3_copy := ⟨⟨X, GA.2.1, GA.2.2.1, rfl, rfl, Nat.le_refl _, Nat.le_refl _⟩, tab_nil ht, hr, hlk, hnm, hnd⟩
  unfold f_X3_copy at hf
  clear hr hlk hnm hnd ht
  refine a_new (pc := 0) (cK := 7) (n := 1) X Z.1.2.1 Z.1.2.2.1 Z.1.2.2.2.1 Z.1.2.2.2.2.1 ⟨by decide, by decide, by decide⟩ (gw X.1 X.2.1 q1099) (gw X.1 X.2.1 q182) (gw X.1 X.2.1 q79) dX3_copy_0 hf (fun x0 h hf => ?_)
  refine AW.lift (fun _ _ _ _ k => lv_dup (pc := 3) X.2.2.1 X.2.2.2.1 dX3_copy_3 (cat_rf _) k) ?_
  refine a_callb (pc := 4) (rs := [vR (some x0)]) (avs := [vR (some x0)]) Z.1 (w_X3_init GA (some x0)) (Or.inl rfl) q185 q79 (by decide) (by decide) dX3_copy_4 hl.1 (Nat.le_of_ble_eq_true rfl) hf (ct_I X q185 q1100 q184 rfl hy_X3_init np_X3_init rfl dX3_copy_4) (fun q h he hX => a_out (unc_of Z.2.1 rfl) Z.2.2.2.1 he hX) (fun _ h hf => ?kk4)
  refine AW.eq (g2 := F0 m 7 ls [va_rf (some x0)]) rfl ?_
  refine a_astore_n (pc := 7) X dX3_copy_7 rfl hl (by decide) (lv' := [(1, vR (some x0)), (0, vR v0)]) rfl (fun ls hl => ?_)
  refine a_aload_n (pc := 8) X dX3_copy_8 rfl hl 0 rfl ?_
  refine a_get (pc := 9) (φ := 700) pR_t X Z.1.2.1 (gw X.1 X.2.1 q224) (fun _ q => q) (by decide) dX3_copy_9 hf (fun x9 hf => ?_)
  refine a_aload_n (pc := 12) X dX3_copy_12 rfl hl 1 rfl ?_
  refine a_get (pc := 13) (φ := 700) pR_t X Z.1.2.1 (gw X.1 X.2.1 q224) (fun _ q => q) (by decide) dX3_copy_13 hf (fun x13 hf => ?_)
  obtain ⟨a16, rfl, ⟨hk, hf⟩ | ⟨-, hf⟩⟩ := dv_some hf
  rotate_left
  · exact fl_none hf
  refine a_callb (pc := 16) (rs := []) (avs := [vR (some a16), vR x13]) Z.1 (w_J4_putAll GA (some a16) x13) (Or.inl rfl) q1104 q81 (by decide) (by decide) dX3_copy_16 hl.1 (Nat.le_of_ble_eq_true rfl) hf (ct_V hk ⟨by decide, by decide⟩ X (Or.inl rfl) q1104 q1101 q1102 q1103 hy_J4_putAll np_J4_putAll rfl dX3_copy_16) (fun q h he hX => a_out (unc_of Z.2.1 rfl) Z.2.2.2.1 he hX) (fun _ h hf => ?kk16)
  refine AW.eq (g2 := F0 m 19 ls []) rfl ?_
  refine a_aload_n (pc := 19) X dX3_copy_19 rfl hl 0 rfl ?_
  exact a_areturn X Z.2.2.1 (Or.inl ⟨_, rfl⟩) Z.2.2.2.1 dX3_copy_20 hf
theorem w_X2_copy_j134 {r : Except Nat (Option Nat) × AH} (GA : GA l s0 a0 K lam) (Z : WZ l s0 a0 K p s m c cX2_copy yX2_copy.cls 4 b R 14 1192 meth [] (some (.object "JumpHall$Hall")) yX2_copy) (v0 : Option Nat) (v1 : Option Nat)   {h : AH} {ls : Array Slot} (hl : LV ls 4 [(0, vR v0), (1, vR v1)]) (hf : f_X2_copy_j134 K v0 v1 h = some r) : AW s0 K lam p l e R s m args below meth c (AQ s0 K lam below oR b r s) b h (F0 m 134 ls []) := by
  unfold f_X2_copy_j134 at hf
  have X := Z.1.1
  refine a_aload_n (pc := 134) X dX2_copy_134 rfl hl 1 rfl ?_
  refine a_get (pc := 135) (φ := 303) pR_t X Z.1.2.1 (gw X.1 X.2.1 q234) (fun _ q => q) (by decide) dX2_copy_135 hf (fun x135 hf => ?_)
  refine a_aload_n (pc := 138) X dX2_copy_138 rfl hl 0 rfl ?_
  refine a_get (pc := 139) (φ := 303) pR_t X Z.1.2.1 (gw X.1 X.2.1 q234) (fun _ q => q) (by decide) dX2_copy_139 hf (fun x139 hf => ?_)
  obtain ⟨a142, rfl, ⟨hk, hf⟩ | ⟨-, hf⟩⟩ := dv_some hf
  rotate_left
  · exact fl_none hf
  refine a_callb (pc := 142) (rs := []) (avs := [vR (some a142), vR x139]) Z.1 (w_J2_addAll GA (some a142) x139) (Or.inl rfl) q993 q78 (by decide) (by decide) dX2_copy_142 hl.1 (Nat.le_of_ble_eq_true rfl) hf (ct_V hk ⟨by decide, by decide⟩ X (Or.inl rfl) q993 q990 q991 q992 hy_J2_addAll np_J2_addAll rfl dX2_copy_142) (fun q h he hX => a_out (unc_of Z.2.1 rfl) Z.2.2.2.1 he hX) (fun x142 h hf => ?kk142)
  refine AW.eq (g2 := F0 m 145 ls [.int x142]) rfl ?_
  refine AW.lift (fun _ _ _ _ k => lv_pop (pc := 145) X.2.2.1 X.2.2.2.1 dX2_copy_145 rfl k) ?_
  refine a_aload_n (pc := 146) X dX2_copy_146 rfl hl 1 rfl ?_
  refine a_aload_n (pc := 147) X dX2_copy_147 rfl hl 0 rfl ?_
  refine a_get (pc := 148) (φ := 304) pR_t X Z.1.2.1 (gw X.1 X.2.1 q236) (fun _ q => q) (by decide) dX2_copy_148 hf (fun x148 hf => ?_)
  obtain ⟨a151, rfl, ⟨hk, hf⟩ | ⟨-, hf⟩⟩ := dv_some hf
  rotate_left
  · exact fl_none hf
  refine a_callb (pc := 151) (rs := [vR v1]) (avs := [vR (some a151)]) Z.1 (w_X3_copy GA (some a151)) (Or.inl rfl) q1098 q79 (by decide) (by decide) dX2_copy_151 hl.1 (Nat.le_of_ble_eq_true rfl) hf (ct_V hk ⟨by decide, by decide⟩ X (Or.inl rfl) q1098 q1095 q1096 q1097 hy_X3_copy np_X3_copy rfl dX2_copy_151) (fun q h he hX => a_out (unc_of Z.2.1 rfl) Z.2.2.2.1 he hX) (fun x151 h hf => ?kk151)
  refine AW.eq (g2 := F0 m 154 ls [va_rf x151, va_rf v1]) rfl ?_
  refine a_put (pc := 154) (φ := 304) X Z.1.2.1 Z.1.2.2.1 (gw X.1 X.2.1 q236) (fun _ q => q) (by decide) rfl (fits_rf _ (Or.inl ⟨_, rfl⟩)) dX2_copy_154 hf (fun h hf => ?_)
  refine a_aload_n (pc := 157) X dX2_copy_157 rfl hl 1 rfl ?_
  refine a_aload_n (pc := 158) X dX2_copy_158 rfl hl 0 rfl ?_
  refine a_get (pc := 159) (φ := 305) pR_t X Z.1.2.1 (gw X.1 X.2.1 q238) (fun _ q => q) (by decide) dX2_copy_159 hf (fun x159 hf => ?_)
  obtain ⟨a162, rfl, ⟨hk, hf⟩ | ⟨-, hf⟩⟩ := dv_some hf
  rotate_left
  · exact fl_none hf
  refine a_callb (pc := 162) (rs := [vR v1]) (avs := [vR (some a162)]) Z.1 (w_X3_copy GA (some a162)) (Or.inl rfl) q1098 q79 (by decide) (by decide) dX2_copy_162 hl.1 (Nat.le_of_ble_eq_true rfl) hf (ct_V hk ⟨by decide, by decide⟩ X (Or.inl rfl) q1098 q1095 q1096 q1097 hy_X3_copy np_X3_copy rfl dX2_copy_162) (fun q h he hX => a_out (unc_of Z.2.1 rfl) Z.2.2.2.1 he hX) (fun x162 h hf => ?kk162)
  refine AW.eq (g2 := F0 m 165 ls [va_rf x162, va_rf v1]) rfl ?_
  refine a_put (pc := 165) (φ := 305) X Z.1.2.1 Z.1.2.2.1 (gw X.1 X.2.1 q238) (fun _ q => q) (by decide) rfl (fits_rf _ (Or.inl ⟨_, rfl⟩)) dX2_copy_165 hf (fun h hf => ?_)
  refine a_aload_n (pc := 168) X dX2_copy_168 rfl hl 1 rfl ?_
  refine a_aload_n (pc := 169) X dX2_copy_169 rfl hl 0 rfl ?_
  refine a_get (pc := 170) (φ := 306) pI_t X Z.1.2.1 (gw X.1 X.2.1 q240) (fun _ q => q) (by decide) dX2_copy_170 hf (fun x170 hf => ?_)
  refine a_put (pc := 173) (φ := 306) X Z.1.2.1 Z.1.2.2.1 (gw X.1 X.2.1 q240) (fun _ q => q) (by decide) rfl rfl dX2_copy_173 hf (fun h hf => ?_)
  refine a_aload_n (pc := 176) X dX2_copy_176 rfl hl 1 rfl ?_
  refine a_aload_n (pc := 177) X dX2_copy_177 rfl hl 0 rfl ?_
  refine a_get (pc := 178) (φ := 307) pI_t X Z.1.2.1 (gw X.1 X.2.1 q242) (fun _ q => q) (by decide) dX2_copy_178 hf (fun x178 hf => ?_)
  refine a_put (pc := 181) (φ := 307) X Z.1.2.1 Z.1.2.2.1 (gw X.1 X.2.1 q242) (fun _ q => q) (by decide) rfl rfl dX2_copy_181 hf (fun h hf => ?_)
  refine a_aload_n (pc := 184) X dX2_copy_184 rfl hl 1 rfl ?_
  refine a_aload_n (pc := 185) X dX2_copy_185 rfl hl 0 rfl ?_
  refine a_get (pc := 186) (φ := 308) pI_t X Z.1.2.1 (gw X.1 X.2.1 q244) (fun _ q => q) (by decide) dX2_copy_186 hf (fun x186 hf => ?_)
  refine a_put (pc := 189) (φ := 308) X Z.1.2.1 Z.1.2.2.1 (gw X.1 X.2.1 q244) (fun _ q => q) (by decide) rfl rfl dX2_copy_189 hf (fun h hf => ?_)
  refine a_aload_n (pc := 192) X dX2_copy_192 rfl hl 1 rfl ?_
  refine a_aload_n (pc := 193) X dX2_copy_193 rfl hl 0 rfl ?_
  refine a_get (pc := 194) (φ := 309) pI_t X Z.1.2.1 (gw X.1 X.2.1 q246) (fun _ q => q) (by decide) dX2_copy_194 hf (fun x194 hf => ?_)
  refine a_put (pc := 197) (φ := 309) X Z.1.2.1 Z.1.2.2.1 (gw X.1 X.2.1 q246) (fun _ q => q) (by decide) rfl rfl dX2_copy_197 hf (fun h hf => ?_)
  refine a_aload_n (pc := 200) X dX2_copy_200 rfl hl 1 rfl ?_
  refine a_aload_n (pc := 201) X dX2_copy_201 rfl hl 0 rfl ?_
  refine a_get (pc := 202) (φ := 310) pI_t X Z.1.2.1 (gw X.1 X.2.1 q248) (fun _ q => q) (by decide) dX2_copy_202 hf (fun x202 hf => ?_)
  refine a_put (pc := 205) (φ := 310) X Z.1.2.1 Z.1.2.2.1 (gw X.1 X.2.1 q248) (fun _ q => q) (by decide) rfl rfl dX2_copy_205 hf (fun h hf => ?_)
  refine a_aload_n (pc := 208) X dX2_copy_208 rfl hl 1 rfl ?_
  exact a_areturn X Z.2.2.1 (Or.inl ⟨_, rfl⟩) Z.2.2.2.1 dX2_copy_209 hf
theorem w_X2_copy_b100 {r : Except Nat (Option Nat) × AH} (GA : GA l s0 a0 K lam) (Z : WZ l s0 a0 K p s m c cX2_copy yX2_copy.cls 4 b R 14 1192 meth [] (some (.object "JumpHall$Hall")) yX2_copy) (v0 : Option Nat) (v1 : Option Nat) (v2 : Option Nat)  (rc100 : AM (Option Nat)) (hrc100 : ∀  (h : AH) (ls : Array Slot), LV ls 4 [(0, vR v0), (1, vR v1), (2, vR v2)] → rc100 h = some r → AW s0 K lam p l e R s m args below meth c (AQ s0 K lam below oR b r s) b h (F0 m 100 ls [])) {h : AH} {ls : Array Slot} (hl : LV ls 4 [(0, vR v0), (1, vR v1), (2, vR v2)]) (hf : f_X2_copy_b100 K rc100 v0 v1 v2 h = some r) : AW s0 K lam p l e R s m args below meth c (AQ s0 K lam below oR b r s) b h (F0 m 100 ls []) := by
  unfold f_X2_copy_b100 at hf
  have X := Z.1.1
  refine a_aload_n (pc := 100) X dX2_copy_100 rfl hl 2 rfl ?_
  obtain ⟨a101, rfl, ⟨hk, hf⟩ | ⟨-, hf⟩⟩ := dv_some hf
  rotate_left
  · exact fl_none hf
  refine a_callb (pc := 101) (rs := []) (avs := [vR (some a101)]) Z.1 (w_J14_hasNext GA (some a101)) (Or.inl rfl) q376 q96 (by decide) (by decide) dX2_copy_101 hl.1 (Nat.le_of_ble_eq_true rfl) hf (ct_F (x := ({ cls := "java/util/Iterator", name := "hasNext", desc := "()Z" } : MethodName)) hk ⟨by decide, by decide⟩ X (Or.inl rfl) q376 q368 (gf X.1 X.2.1 q370 rfl) (gf X.1 X.2.1 q369 rfl) (gf X.1 X.2.1 q375 rfl) (gf X.1 X.2.1 q373 rfl) (gf X.1 X.2.1 q371 rfl) q374 q372 ⟨by decide, by decide⟩ np_J14_hasNext rfl dX2_copy_101) (fun q h he hX => a_out (unc_of Z.2.1 rfl) Z.2.2.2.1 he hX) (fun x101 h hf => ?kk101)
  refine AW.eq (g2 := F0 m 106 ls [.int x101]) rfl ?_
  refine AW.lift2 (fun _ _ _ _ k1 k2 => lv_if_eq (pc := 106) (tgt := 134) X.2.2.1 X.2.2.2.1 dX2_copy_106 rfl k1 k2) (fun c => ?_) (fun c => ?_)
  · have hf := ite_t c hf
    exact w_X2_copy_j134 GA Z v0 v1   (hl.sub [0, 1] rfl) hf
  · have hf := ite_f c hf
    refine a_aload_n (pc := 109) X dX2_copy_109 rfl hl 2 rfl ?_
    rcases dv_someS hf with ⟨hk, hf⟩ | ⟨-, hf⟩
    rotate_left
    · exact fl_none hf
    refine a_callb (pc := 110) (rs := []) (avs := [vR (some a101)]) Z.1 (w_J14_next GA (some a101)) (Or.inl rfl) q397 q96 (by decide) (by decide) dX2_copy_110 hl.1 (Nat.le_of_ble_eq_true rfl) hf (ct_F (x := ({ cls := "java/util/Iterator", name := "next", desc := "()Ljava/lang/Object;" } : MethodName)) hk ⟨by decide, by decide⟩ X (Or.inl rfl) q397 q390 (gf X.1 X.2.1 q392 rfl) (gf X.1 X.2.1 q391 rfl) (gf X.1 X.2.1 q396 rfl) (gf X.1 X.2.1 q394 rfl) (gf X.1 X.2.1 q371 rfl) q395 q393 ⟨by decide, by decide⟩ np_J14_next rfl dX2_copy_110) (fun q h he hX => a_out (unc_of Z.2.1 rfl) Z.2.2.2.1 he hX) (fun x110 h hf => ?kk110)
    refine AW.eq (g2 := F0 m 115 ls [va_rf x110]) rfl ?_
    refine a_checkcast (pc := 115) X (gw X.1 X.2.1 q950) (cs_JumpHall_Party GA) dX2_copy_115 hf (fun hf => ?_)
    refine a_astore_n (pc := 118) X dX2_copy_118 rfl hl (by decide) (lv' := [(3, vR x110), (0, vR v0), (1, vR v1), (2, vR (some a101))]) rfl (fun ls hl => ?_)
    refine a_aload_n (pc := 119) X dX2_copy_119 rfl hl 2 rfl ?_
    refine a_get (pc := 120) (φ := 302) pR_t X Z.1.2.1 (gw X.1 X.2.1 q232) (fun _ q => q) (by decide) dX2_copy_120 hf (fun x120 hf => ?_)
    refine a_aload_n (pc := 123) X dX2_copy_123 rfl hl 0 rfl ?_
    obtain ⟨a124, rfl, ⟨hk, hf⟩ | ⟨-, hf⟩⟩ := dv_some hf
    rotate_left
    · exact fl_none hf
    refine a_callb (pc := 124) (rs := [vR x120]) (avs := [vR (some a124)]) Z.1 (w_X9_copy GA (some a124)) (Or.inl rfl) q954 q108 (by decide) (by decide) dX2_copy_124 hl.1 (Nat.le_of_ble_eq_true rfl) hf (ct_V hk ⟨by decide, by decide⟩ X (Or.inl rfl) q954 q951 q952 q953 hy_X9_copy np_X9_copy rfl dX2_copy_124) (fun q h he hX => a_out (unc_of Z.2.1 rfl) Z.2.2.2.1 he hX) (fun x124 h hf => ?kk124)
    refine AW.eq (g2 := F0 m 127 ls [va_rf x124, va_rf x120]) rfl ?_
    obtain ⟨a127, rfl, ⟨hk, hf⟩ | ⟨-, hf⟩⟩ := dv_some hf
    rotate_left
    · exact fl_none hf
    refine a_callb (pc := 127) (rs := []) (avs := [vR (some a127), vR x124]) Z.1 (w_J2_add GA (some a127) x124) (Or.inl rfl) q834 q78 (by decide) (by decide) dX2_copy_127 hl.1 (Nat.le_of_ble_eq_true rfl) hf (ct_V hk ⟨by decide, by decide⟩ X (Or.inl rfl) q834 q831 q832 q833 hy_J2_add np_J2_add rfl dX2_copy_127) (fun q h he hX => a_out (unc_of Z.2.1 rfl) Z.2.2.2.1 he hX) (fun x127 h hf => ?kk127)
    refine AW.eq (g2 := F0 m 130 ls [.int x127]) rfl ?_
    refine AW.lift (fun _ _ _ _ k => lv_pop (pc := 130) X.2.2.1 X.2.2.2.1 dX2_copy_130 rfl k) ?_
    refine AW.lift (fun _ _ _ _ k => lv_goto (pc := 131) (tgt := 100) X.2.2.1 X.2.2.2.1 dX2_copy_131 rfl k) ?_
    exact hrc100  _ _ (hl.sub [1, 2, 3] rfl) hf
theorem w_X2_copy_l100 {r : Except Nat (Option Nat) × AH} (GA : GA l s0 a0 K lam) (Z : WZ l s0 a0 K p s m c cX2_copy yX2_copy.cls 4 b R 14 1192 meth [] (some (.object "JumpHall$Hall")) yX2_copy) (v0 : Option Nat) (v1 : Option Nat) (v2 : Option Nat)  : ∀ (n : Nat)  (h : AH) (ls : Array Slot), LV ls 4 [(0, vR v0), (1, vR v1), (2, vR v2)] → f_X2_copy_l100 K v0 v1 v2 n  h = some r → AW s0 K lam p l e R s m args below meth c (AQ s0 K lam below oR b r s) b h (F0 m 100 ls []) := by
  intro n
  induction n with
  | zero => intro  h ls hl hf; exact fl_no (h := h) hf
  | succ n ih => intro  h ls hl hf; exact w_X2_copy_b100 GA Z v0 v1 v2 (f_X2_copy_l100 K v0 v1 v2 n) ih hl hf
theorem w_X2_copy_j92 {r : Except Nat (Option Nat) × AH} (GA : GA l s0 a0 K lam) (Z : WZ l s0 a0 K p s m c cX2_copy yX2_copy.cls 4 b R 14 1192 meth [] (some (.object "JumpHall$Hall")) yX2_copy) (v0 : Option Nat) (v1 : Option Nat)   {h : AH} {ls : Array Slot} (hl : LV ls 4 [(0, vR v0), (1, vR v1)]) (hf : f_X2_copy_j92 K v0 v1 h = some r) : AW s0 K lam p l e R s m args below meth c (AQ s0 K lam below oR b r s) b h (F0 m 92 ls []) := by
  unfold f_X2_copy_j92 at hf
  have X := Z.1.1
  refine a_aload_n (pc := 92) X dX2_copy_92 rfl hl 0 rfl ?_
  refine a_get (pc := 93) (φ := 302) pR_t X Z.1.2.1 (gw X.1 X.2.1 q232) (fun _ q => q) (by decide) dX2_copy_93 hf (fun x93 hf => ?_)
  obtain ⟨a96, rfl, ⟨hk, hf⟩ | ⟨-, hf⟩⟩ := dv_some hf
  rotate_left
  · exact fl_none hf
  refine a_callb (pc := 96) (rs := []) (avs := [vR (some a96)]) Z.1 (w_J2_iterator GA (some a96)) (Or.inl rfl) q347 q78 (by decide) (by decide) dX2_copy_96 hl.1 (Nat.le_of_ble_eq_true rfl) hf (ct_V hk ⟨by decide, by decide⟩ X (Or.inl rfl) q347 q344 q345 q346 hy_J2_iterator np_J2_iterator rfl dX2_copy_96) (fun q h he hX => a_out (unc_of Z.2.1 rfl) Z.2.2.2.1 he hX) (fun x96 h hf => ?kk96)
  refine AW.eq (g2 := F0 m 99 ls [va_rf x96]) rfl ?_
  refine a_astore_n (pc := 99) X dX2_copy_99 rfl hl (by decide) (lv' := [(2, vR x96), (0, vR v0), (1, vR v1)]) rfl (fun ls hl => ?_)
  exact w_X2_copy_l100 GA Z v0 v1 x96  FU  _ _ (hl.sub [1, 2, 0] rfl) hf
theorem w_X2_copy_b58 {r : Except Nat (Option Nat) × AH} (GA : GA l s0 a0 K lam) (Z : WZ l s0 a0 K p s m c cX2_copy yX2_copy.cls 4 b R 14 1192 meth [] (some (.object "JumpHall$Hall")) yX2_copy) (v0 : Option Nat) (v1 : Option Nat) (v2 : Option Nat)  (rc58 : AM (Option Nat)) (hrc58 : ∀  (h : AH) (ls : Array Slot), LV ls 4 [(0, vR v0), (1, vR v1), (2, vR v2)] → rc58 h = some r → AW s0 K lam p l e R s m args below meth c (AQ s0 K lam below oR b r s) b h (F0 m 58 ls [])) {h : AH} {ls : Array Slot} (hl : LV ls 4 [(0, vR v0), (1, vR v1), (2, vR v2)]) (hf : f_X2_copy_b58 K rc58 v0 v1 v2 h = some r) : AW s0 K lam p l e R s m args below meth c (AQ s0 K lam below oR b r s) b h (F0 m 58 ls []) := by
  unfold f_X2_copy_b58 at hf
  have X := Z.1.1
  refine a_aload_n (pc := 58) X dX2_copy_58 rfl hl 2 rfl ?_
  obtain ⟨a59, rfl, ⟨hk, hf⟩ | ⟨-, hf⟩⟩ := dv_some hf
  rotate_left
  · exact fl_none hf
  refine a_callb (pc := 59) (rs := []) (avs := [vR (some a59)]) Z.1 (w_J14_hasNext GA (some a59)) (Or.inl rfl) q376 q96 (by decide) (by decide) dX2_copy_59 hl.1 (Nat.le_of_ble_eq_true rfl) hf (ct_F (x := ({ cls := "java/util/Iterator", name := "hasNext", desc := "()Z" } : MethodName)) hk ⟨by decide, by decide⟩ X (Or.inl rfl) q376 q368 (gf X.1 X.2.1 q370 rfl) (gf X.1 X.2.1 q369 rfl) (gf X.1 X.2.1 q375 rfl) (gf X.1 X.2.1 q373 rfl) (gf X.1 X.2.1 q371 rfl) q374 q372 ⟨by decide, by decide⟩ np_J14_hasNext rfl dX2_copy_59) (fun q h he hX => a_out (unc_of Z.2.1 rfl) Z.2.2.2.1 he hX) (fun x59 h hf => ?kk59)
  refine AW.eq (g2 := F0 m 64 ls [.int x59]) rfl ?_
  refine AW.lift2 (fun _ _ _ _ k1 k2 => lv_if_eq (pc := 64) (tgt := 92) X.2.2.1 X.2.2.2.1 dX2_copy_64 rfl k1 k2) (fun c => ?_) (fun c => ?_)
  · have hf := ite_t c hf
    exact w_X2_copy_j92 GA Z v0 v1   (hl.sub [0, 1] rfl) hf
  · have hf := ite_f c hf
    refine a_aload_n (pc := 67) X dX2_copy_67 rfl hl 2 rfl ?_
    rcases dv_someS hf with ⟨hk, hf⟩ | ⟨-, hf⟩
    rotate_left
    · exact fl_none hf
    refine a_callb (pc := 68) (rs := []) (avs := [vR (some a59)]) Z.1 (w_J14_next GA (some a59)) (Or.inl rfl) q397 q96 (by decide) (by decide) dX2_copy_68 hl.1 (Nat.le_of_ble_eq_true rfl) hf (ct_F (x := ({ cls := "java/util/Iterator", name := "next", desc := "()Ljava/lang/Object;" } : MethodName)) hk ⟨by decide, by decide⟩ X (Or.inl rfl) q397 q390 (gf X.1 X.2.1 q392 rfl) (gf X.1 X.2.1 q391 rfl) (gf X.1 X.2.1 q396 rfl) (gf X.1 X.2.1 q394 rfl) (gf X.1 X.2.1 q371 rfl) q395 q393 ⟨by decide, by decide⟩ np_J14_next rfl dX2_copy_68) (fun q h he hX => a_out (unc_of Z.2.1 rfl) Z.2.2.2.1 he hX) (fun x68 h hf => ?kk68)
    refine AW.eq (g2 := F0 m 73 ls [va_rf x68]) rfl ?_
    refine a_checkcast (pc := 73) X (gw X.1 X.2.1 q899) (cs_JumpHall_Jumper GA) dX2_copy_73 hf (fun hf => ?_)
    refine a_astore_n (pc := 76) X dX2_copy_76 rfl hl (by decide) (lv' := [(3, vR x68), (0, vR v0), (1, vR v1), (2, vR (some a59))]) rfl (fun ls hl => ?_)
    refine a_aload_n (pc := 77) X dX2_copy_77 rfl hl 2 rfl ?_
    refine a_get (pc := 78) (φ := 301) pR_t X Z.1.2.1 (gw X.1 X.2.1 q230) (fun _ q => q) (by decide) dX2_copy_78 hf (fun x78 hf => ?_)
    refine a_aload_n (pc := 81) X dX2_copy_81 rfl hl 0 rfl ?_
    obtain ⟨a82, rfl, ⟨hk, hf⟩ | ⟨-, hf⟩⟩ := dv_some hf
    rotate_left
    · exact fl_none hf
    refine a_callb (pc := 82) (rs := [vR x78]) (avs := [vR (some a82)]) Z.1 (w_X8_copy GA (some a82)) (Or.inl rfl) q903 q107 (by decide) (by decide) dX2_copy_82 hl.1 (Nat.le_of_ble_eq_true rfl) hf (ct_V hk ⟨by decide, by decide⟩ X (Or.inl rfl) q903 q900 q901 q902 hy_X8_copy np_X8_copy rfl dX2_copy_82) (fun q h he hX => a_out (unc_of Z.2.1 rfl) Z.2.2.2.1 he hX) (fun x82 h hf => ?kk82)
    refine AW.eq (g2 := F0 m 85 ls [va_rf x82, va_rf x78]) rfl ?_
    obtain ⟨a85, rfl, ⟨hk, hf⟩ | ⟨-, hf⟩⟩ := dv_some hf
    rotate_left
    · exact fl_none hf
    refine a_callb (pc := 85) (rs := []) (avs := [vR (some a85), vR x82]) Z.1 (w_J2_add GA (some a85) x82) (Or.inl rfl) q834 q78 (by decide) (by decide) dX2_copy_85 hl.1 (Nat.le_of_ble_eq_true rfl) hf (ct_V hk ⟨by decide, by decide⟩ X (Or.inl rfl) q834 q831 q832 q833 hy_J2_add np_J2_add rfl dX2_copy_85) (fun q h he hX => a_out (unc_of Z.2.1 rfl) Z.2.2.2.1 he hX) (fun x85 h hf => ?kk85)
    refine AW.eq (g2 := F0 m 88 ls [.int x85]) rfl ?_
    refine AW.lift (fun _ _ _ _ k => lv_pop (pc := 88) X.2.2.1 X.2.2.2.1 dX2_copy_88 rfl k) ?_
    refine AW.lift (fun _ _ _ _ k => lv_goto (pc := 89) (tgt := 58) X.2.2.1 X.2.2.2.1 dX2_copy_89 rfl k) ?_
    exact hrc58  _ _ (hl.sub [1, 2, 3] rfl) hf
theorem w_X2_copy_l58 {r : Except Nat (Option Nat) × AH} (GA : GA l s0 a0 K lam) (Z : WZ l s0 a0 K p s m c cX2_copy yX2_copy.cls 4 b R 14 1192 meth [] (some (.object "JumpHall$Hall")) yX2_copy) (v0 : Option Nat) (v1 : Option Nat) (v2 : Option Nat)  : ∀ (n : Nat)  (h : AH) (ls : Array Slot), LV ls 4 [(0, vR v0), (1, vR v1), (2, vR v2)] → f_X2_copy_l58 K v0 v1 v2 n  h = some r → AW s0 K lam p l e R s m args below meth c (AQ s0 K lam below oR b r s) b h (F0 m 58 ls []) := by
  intro n
  induction n with
  | zero => intro  h ls hl hf; exact fl_no (h := h) hf
  | succ n ih => intro  h ls hl hf; exact w_X2_copy_b58 GA Z v0 v1 v2 (f_X2_copy_l58 K v0 v1 v2 n) ih hl hf
theorem w_X2_copy_j50 {r : Except Nat (Option Nat) × AH} (GA : GA l s0 a0 K lam) (Z : WZ l s0 a0 K p s m c cX2_copy yX2_copy.cls 4 b R 14 1192 meth [] (some (.object "JumpHall$Hall")) yX2_copy) (v0 : Option Nat) (v1 : Option Nat)   {h : AH} {ls : Array Slot} (hl : LV ls 4 [(0, vR v0), (1, vR v1)]) (hf : f_X2_copy_j50 K v0 v1 h = some r) : AW s0 K lam p l e R s m args below meth c (AQ s0 K lam below oR b r s) b h (F0 m 50 ls []) := by
  unfold f_X2_copy_j50 at hf
  have X := Z.1.1
  refine a_aload_n (pc := 50) X dX2_copy_50 rfl hl 0 rfl ?_
  refine a_get (pc := 51) (φ := 301) pR_t X Z.1.2.1 (gw X.1 X.2.1 q230) (fun _ q => q) (by decide) dX2_copy_51 hf (fun x51 hf => ?_)
  obtain ⟨a54, rfl, ⟨hk, hf⟩ | ⟨-, hf⟩⟩ := dv_some hf
  rotate_left
  · exact fl_none hf
  refine a_callb (pc := 54) (rs := []) (avs := [vR (some a54)]) Z.1 (w_J2_iterator GA (some a54)) (Or.inl rfl) q347 q78 (by decide) (by decide) dX2_copy_54 hl.1 (Nat.le_of_ble_eq_true rfl) hf (ct_V hk ⟨by decide, by decide⟩ X (Or.inl rfl) q347 q344 q345 q346 hy_J2_iterator np_J2_iterator rfl dX2_copy_54) (fun q h he hX => a_out (unc_of Z.2.1 rfl) Z.2.2.2.1 he hX) (fun x54 h hf => ?kk54)
  refine AW.eq (g2 := F0 m 57 ls [va_rf x54]) rfl ?_
  refine a_astore_n (pc := 57) X dX2_copy_57 rfl hl (by decide) (lv' := [(2, vR x54), (0, vR v0), (1, vR v1)]) rfl (fun ls hl => ?_)
  exact w_X2_copy_l58 GA Z v0 v1 x54  FU  _ _ (hl.sub [1, 2, 0] rfl) hf
theorem w_X2_copy_b16 {r : Except Nat (Option Nat) × AH} (GA : GA l s0 a0 K lam) (Z : WZ l s0 a0 K p s m c cX2_copy yX2_copy.cls 4 b R 14 1192 meth [] (some (.object "JumpHall$Hall")) yX2_copy) (v0 : Option Nat) (v1 : Option Nat) (v2 : Option Nat)  (rc16 : AM (Option Nat)) (hrc16 : ∀  (h : AH) (ls : Array Slot), LV ls 4 [(0, vR v0), (1, vR v1), (2, vR v2)] → rc16 h = some r → AW s0 K lam p l e R s m args below meth c (AQ s0 K lam below oR b r s) b h (F0 m 16 ls [])) {h : AH} {ls : Array Slot} (hl : LV ls 4 [(0, vR v0), (1, vR v1), (2, vR v2)]) (hf : f_X2_copy_b16 K rc16 v0 v1 v2 h = some r) : AW s0 K lam p l e R s m args below meth c (AQ s0 K lam below oR b r s) b h (F0 m 16 ls []) := by
  unfold f_X2_copy_b16 at hf
  have X := Z.1.1
  refine a_aload_n (pc := 16) X dX2_copy_16 rfl hl 2 rfl ?_
  obtain ⟨a17, rfl, ⟨hk, hf⟩ | ⟨-, hf⟩⟩ := dv_some hf
  rotate_left
  · exact fl_none hf
  refine a_callb (pc := 17) (rs := []) (avs := [vR (some a17)]) Z.1 (w_J14_hasNext GA (some a17)) (Or.inl rfl) q376 q96 (by decide) (by decide) dX2_copy_17 hl.1 (Nat.le_of_ble_eq_true rfl) hf (ct_F (x := ({ cls := "java/util/Iterator", name := "hasNext", desc := "()Z" } : MethodName)) hk ⟨by decide, by decide⟩ X (Or.inl rfl) q376 q368 (gf X.1 X.2.1 q370 rfl) (gf X.1 X.2.1 q369 rfl) (gf X.1 X.2.1 q375 rfl) (gf X.1 X.2.1 q373 rfl) (gf X.1 X.2.1 q371 rfl) q374 q372 ⟨by decide, by decide⟩ np_J14_hasNext rfl dX2_copy_17) (fun q h he hX => a_out (unc_of Z.2.1 rfl) Z.2.2.2.1 he hX) (fun x17 h hf => ?kk17)
  refine AW.eq (g2 := F0 m 22 ls [.int x17]) rfl ?_
  refine AW.lift2 (fun _ _ _ _ k1 k2 => lv_if_eq (pc := 22) (tgt := 50) X.2.2.1 X.2.2.2.1 dX2_copy_22 rfl k1 k2) (fun c => ?_) (fun c => ?_)
  · have hf := ite_t c hf
    exact w_X2_copy_j50 GA Z v0 v1   (hl.sub [0, 1] rfl) hf
  · have hf := ite_f c hf
    refine a_aload_n (pc := 25) X dX2_copy_25 rfl hl 2 rfl ?_
    rcases dv_someS hf with ⟨hk, hf⟩ | ⟨-, hf⟩
    rotate_left
    · exact fl_none hf
    refine a_callb (pc := 26) (rs := []) (avs := [vR (some a17)]) Z.1 (w_J14_next GA (some a17)) (Or.inl rfl) q397 q96 (by decide) (by decide) dX2_copy_26 hl.1 (Nat.le_of_ble_eq_true rfl) hf (ct_F (x := ({ cls := "java/util/Iterator", name := "next", desc := "()Ljava/lang/Object;" } : MethodName)) hk ⟨by decide, by decide⟩ X (Or.inl rfl) q397 q390 (gf X.1 X.2.1 q392 rfl) (gf X.1 X.2.1 q391 rfl) (gf X.1 X.2.1 q396 rfl) (gf X.1 X.2.1 q394 rfl) (gf X.1 X.2.1 q371 rfl) q395 q393 ⟨by decide, by decide⟩ np_J14_next rfl dX2_copy_26) (fun q h he hX => a_out (unc_of Z.2.1 rfl) Z.2.2.2.1 he hX) (fun x26 h hf => ?kk26)
    refine AW.eq (g2 := F0 m 31 ls [va_rf x26]) rfl ?_
    refine a_checkcast (pc := 31) X (gw X.1 X.2.1 q802) (cs_JumpHall_Mat GA) dX2_copy_31 hf (fun hf => ?_)
    refine a_astore_n (pc := 34) X dX2_copy_34 rfl hl (by decide) (lv' := [(3, vR x26), (0, vR v0), (1, vR v1), (2, vR (some a17))]) rfl (fun ls hl => ?_)
    refine a_aload_n (pc := 35) X dX2_copy_35 rfl hl 2 rfl ?_
    refine a_get (pc := 36) (φ := 300) pR_t X Z.1.2.1 (gw X.1 X.2.1 q228) (fun _ q => q) (by decide) dX2_copy_36 hf (fun x36 hf => ?_)
    refine a_aload_n (pc := 39) X dX2_copy_39 rfl hl 0 rfl ?_
    obtain ⟨a40, rfl, ⟨hk, hf⟩ | ⟨-, hf⟩⟩ := dv_some hf
    rotate_left
    · exact fl_none hf
    refine a_callb (pc := 40) (rs := [vR x36]) (avs := [vR (some a40)]) Z.1 (w_X7_copy GA (some a40)) (Or.inl rfl) q806 q91 (by decide) (by decide) dX2_copy_40 hl.1 (Nat.le_of_ble_eq_true rfl) hf (ct_V hk ⟨by decide, by decide⟩ X (Or.inl rfl) q806 q803 q804 q805 hy_X7_copy np_X7_copy rfl dX2_copy_40) (fun q h he hX => a_out (unc_of Z.2.1 rfl) Z.2.2.2.1 he hX) (fun x40 h hf => ?kk40)
    refine AW.eq (g2 := F0 m 43 ls [va_rf x40, va_rf x36]) rfl ?_
    obtain ⟨a43, rfl, ⟨hk, hf⟩ | ⟨-, hf⟩⟩ := dv_some hf
    rotate_left
    · exact fl_none hf
    refine a_callb (pc := 43) (rs := []) (avs := [vR (some a43), vR x40]) Z.1 (w_J2_add GA (some a43) x40) (Or.inl rfl) q834 q78 (by decide) (by decide) dX2_copy_43 hl.1 (Nat.le_of_ble_eq_true rfl) hf (ct_V hk ⟨by decide, by decide⟩ X (Or.inl rfl) q834 q831 q832 q833 hy_J2_add np_J2_add rfl dX2_copy_43) (fun q h he hX => a_out (unc_of Z.2.1 rfl) Z.2.2.2.1 he hX) (fun x43 h hf => ?kk43)
    refine AW.eq (g2 := F0 m 46 ls [.int x43]) rfl ?_
    refine AW.lift (fun _ _ _ _ k => lv_pop (pc := 46) X.2.2.1 X.2.2.2.1 dX2_copy_46 rfl k) ?_
    refine AW.lift (fun _ _ _ _ k => lv_goto (pc := 47) (tgt := 16) X.2.2.1 X.2.2.2.1 dX2_copy_47 rfl k) ?_
    exact hrc16  _ _ (hl.sub [1, 2, 3] rfl) hf
theorem w_X2_copy_l16 {r : Except Nat (Option Nat) × AH} (GA : GA l s0 a0 K lam) (Z : WZ l s0 a0 K p s m c cX2_copy yX2_copy.cls 4 b R 14 1192 meth [] (some (.object "JumpHall$Hall")) yX2_copy) (v0 : Option Nat) (v1 : Option Nat) (v2 : Option Nat)  : ∀ (n : Nat)  (h : AH) (ls : Array Slot), LV ls 4 [(0, vR v0), (1, vR v1), (2, vR v2)] → f_X2_copy_l16 K v0 v1 v2 n  h = some r → AW s0 K lam p l e R s m args below meth c (AQ s0 K lam below oR b r s) b h (F0 m 16 ls []) := by
  intro n
  induction n with
  | zero => intro  h ls hl hf; exact fl_no (h := h) hf
  | succ n ih => intro  h ls hl hf; exact w_X2_copy_b16 GA Z v0 v1 v2 (f_X2_copy_l16 K v0 v1 v2 n) ih hl hf
theorem np_X2_copy : npar yX2_copy.desc 0 := by unfold npar; decide +kernel
theorem hy_X2_copy : yX2_copy.cls ≠ "java/lang/invoke/MethodHandle" ∧ yX2_copy.cls ≠ "java/lang/invoke/VarHandle" := by decide +kernel
theorem w_X2_copy (GA : GA l s0 a0 K lam) (v0 : Option Nat) : AMet l s0 K lam yX2_copy (Cond.code yX2_copy cX2_copy (4 : Nat) (Option.some (ClassFile.FieldType.object "JumpHall$Hall"))) 14 1192 [vR v0] oR (f_X2_copy K v0) := by
  refine AMet.of GA.1 (plainFor_of_name (by decide +kernel)) (Nat.le_of_ble_eq_true rfl) ?_
  intro b r hf p e s m args below meth c X hr hlk hnm hnd ht ls hl
  have Z : WZ l s0 a0 K p s m c cX2_copy yX2_copy.cls 4 b { frames := 14, cells := K 0 - aX b, slots := K 1 - aW b, locals := 1192 } 14 1192 meth [] (some (.object "JumpHall$Hall")) yX2_copy := ⟨⟨X, GA.2.1, GA.2.2.1, rfl, rfl, Nat.le_refl _, Nat.le_refl _⟩, tab_nil ht, hr, hlk, hnm, hnd⟩
  unfold f_X2_copy at hf
  clear hr hlk hnm hnd ht
  refine a_new (pc := 0) (cK := 3) (n := 11) X Z.1.2.1 Z.1.2.2.1 Z.1.2.2.2.1 Z.1.2.2.2.2.1 ⟨by decide, by decide, by decide⟩ (gw X.1 X.2.1 q342) (gw X.1 X.2.1 q147) (gw X.1 X.2.1 q75) dX2_copy_0 hf (fun x0 h hf => ?_)
  refine AW.lift (fun _ _ _ _ k => lv_dup (pc := 3) X.2.2.1 X.2.2.2.1 dX2_copy_3 (cat_rf _) k) ?_
  refine a_callb (pc := 4) (rs := [vR (some x0)]) (avs := [vR (some x0)]) Z.1 (w_X2_init GA (some x0)) (Or.inl rfl) q150 q75 (by decide) (by decide) dX2_copy_4 hl.1 (Nat.le_of_ble_eq_true rfl) hf (ct_I X q150 q343 q149 rfl hy_X2_init np_X2_init rfl dX2_copy_4) (fun q h he hX => a_out (unc_of Z.2.1 rfl) Z.2.2.2.1 he hX) (fun _ h hf => ?kk4)
  refine AW.eq (g2 := F0 m 7 ls [va_rf (some x0)]) rfl ?_
  refine a_astore_n (pc := 7) X dX2_copy_7 rfl hl (by decide) (lv' := [(1, vR (some x0)), (0, vR v0)]) rfl (fun ls hl => ?_)
  refine a_aload_n (pc := 8) X dX2_copy_8 rfl hl 1 rfl ?_
  refine a_get (pc := 9) (φ := 300) pR_t X Z.1.2.1 (gw X.1 X.2.1 q228) (fun _ q => q) (by decide) dX2_copy_9 hf (fun x9 hf => ?_)
  obtain ⟨a12, rfl, ⟨hk, hf⟩ | ⟨-, hf⟩⟩ := dv_some hf
  rotate_left
  · exact fl_none hf
  refine a_callb (pc := 12) (rs := []) (avs := [vR (some a12)]) Z.1 (w_J2_iterator GA (some a12)) (Or.inl rfl) q347 q78 (by decide) (by decide) dX2_copy_12 hl.1 (Nat.le_of_ble_eq_true rfl) hf (ct_V hk ⟨by decide, by decide⟩ X (Or.inl rfl) q347 q344 q345 q346 hy_J2_iterator np_J2_iterator rfl dX2_copy_12) (fun q h he hX => a_out (unc_of Z.2.1 rfl) Z.2.2.2.1 he hX) (fun x12 h hf => ?kk12)
  refine AW.eq (g2 := F0 m 15 ls [va_rf x12]) rfl ?_
  refine a_astore_n (pc := 15) X dX2_copy_15 rfl hl (by decide) (lv' := [(2, vR x12), (1, vR (some x0)), (0, vR v0)]) rfl (fun ls hl => ?_)
  exact w_X2_copy_l16 GA Z v0 (some x0) x12  FU  _ _ (hl.sub [2, 1, 0] rfl) hf
end WK
