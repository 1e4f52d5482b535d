section WK
variable {l : Launch} {s0 : State} {a0 : Array Value} {K : Nat → Nat} {lam : Nat → ClassId}
variable {p : Program} {e : Env} {R : Room} {s : State} {m : MethodId} {args : Array Value} {below : List Frame} {meth : Method} {c : Code} {b : AH}
theorem np_X2_isJumper : npar yX2_isJumper.desc 1 := by unfold npar; decide +kernel
theorem hy_X2_isJumper : yX2_isJumper.cls ≠ "java/lang/invoke/MethodHandle" ∧ yX2_isJumper.cls ≠ "java/lang/invoke/VarHandle" := by decide +kernel
theorem w_X2_isJumper (GA : GA l s0 a0 K lam) (v0 : Option Nat) (v1 : Int32) : AMet l s0 K lam yX2_isJumper (Cond.code yX2_isJumper cX2_isJumper (2 : Nat) (Option.some ClassFile.FieldType.boolean)) 1 22 [vR v0, vI v1] oI (f_X2_isJumper K v0 v1) := by
  refine AMet.of GA.1 (plainFor_of_name (by decide +kernel)) (Nat.le_of_ble_eq_true rfl) ?_
  intro b r hf p e s m args below meth c X hr hlk hnm hnd ht ls hl
  have Z : WZ l s0 a0 K p s m c cX2_isJumper yX2_isJumper.cls 2 b { frames := 1, cells := K 0 - aX b, slots := K 1 - aW b, locals := 22 } 1 22 meth [] (some (.boolean)) yX2_isJumper := ⟨⟨X, GA.2.1, GA.2.2.1, rfl, rfl, Nat.le_refl _, Nat.le_refl _⟩, tab_nil ht, hr, hlk, hnm, hnd⟩
  unfold f_X2_isJumper at hf
  clear hr hlk hnm hnd ht
  refine a_iload_n (pc := 0) X dX2_isJumper_0 rfl hl 1 rfl ?_
  refine AW.lift (fun _ _ _ _ k => lv_iconst (pc := 1) (v := (0 : Int32)) X.2.2.1 X.2.2.2.1 dX2_isJumper_1 rfl k) ?_
  refine a_aload_n (pc := 2) X dX2_isJumper_2 rfl hl 0 rfl ?_
  refine a_get (pc := 3) (φ := 301) pR_t X Z.1.2.1 (gw X.1 X.2.1 q230) (fun _ q => q) (by decide) dX2_isJumper_3 hf (fun x3 hf => ?_)
  obtain ⟨a6, rfl, ⟨hk, hf⟩ | ⟨-, hf⟩⟩ := dv_some hf
  rotate_left
  · exact fl_none hf
  refine a_callb (pc := 6) (rs := [vI (0 : Int32), vI v1]) (avs := [vR (some a6)]) Z.1 (w_J2_size GA (some a6)) (Or.inl rfl) q1012 q78 (by decide) (by decide) dX2_isJumper_6 hl.1 (Nat.le_of_ble_eq_true rfl) hf (ct_V hk ⟨by decide, by decide⟩ X (Or.inl rfl) q1012 q1720 q1011 q3486 hy_J2_size np_J2_size rfl dX2_isJumper_6) (fun q h he hX => a_out (unc_of Z.2.1 rfl) Z.2.2.2.1 he hX) (fun x6 h hf => ?kk6)
  refine AW.eq (g2 := F0 m 9 ls [.int x6, .int (0 : Int32), .int v1]) rfl ?_
  refine AW.lift (fun _ _ _ _ k => lv_iconst (pc := 9) (v := (1 : Int32)) X.2.2.1 X.2.2.2.1 dX2_isJumper_9 rfl k) ?_
  refine AW.lift (fun _ _ _ _ k => lv_isub (pc := 10) X.2.2.1 X.2.2.2.1 dX2_isJumper_10 k) ?_
  refine a_callb (pc := 11) (rs := []) (avs := [vI v1, vI (0 : Int32), vI (x6 - (1 : Int32))]) Z.1 (w_X1_isIn GA v1 (0 : Int32) (x6 - (1 : Int32))) (Or.inl rfl) q1812 q74 (by decide) (by decide) dX2_isJumper_11 hl.1 (Nat.le_of_ble_eq_true rfl) hf (ct_SN X (Or.inl rfl) q1812 q74 q1810 q1811 hy_X1_isIn np_X1_isIn rfl dX2_isJumper_11) (fun q h he hX => a_out (unc_of Z.2.1 rfl) Z.2.2.2.1 he hX) (fun x11 h hf => ?kk11)
  refine AW.eq (g2 := F0 m 14 ls [.int x11]) rfl ?_
  obtain ⟨hg, hf⟩ := chk_some hf
  exact a_zreturn X Z.2.2.1 hg Z.2.2.2.1 dX2_isJumper_14 hf
theorem np_X2_isMat : npar yX2_isMat.desc 1 := by unfold npar; decide +kernel
theorem hy_X2_isMat : yX2_isMat.cls ≠ "java/lang/invoke/MethodHandle" ∧ yX2_isMat.cls ≠ "java/lang/invoke/VarHandle" := by decide +kernel
theorem w_X2_isMat (GA : GA l s0 a0 K lam) (v0 : Option Nat) (v1 : Int32) : AMet l s0 K lam yX2_isMat (Cond.code yX2_isMat cX2_isMat (2 : Nat) (Option.some ClassFile.FieldType.boolean)) 1 22 [vR v0, vI v1] oI (f_X2_isMat K v0 v1) := by
  refine AMet.of GA.1 (plainFor_of_name (by decide +kernel)) (Nat.le_of_ble_eq_true rfl) ?_
  intro b r hf p e s m args below meth c X hr hlk hnm hnd ht ls hl
  have Z : WZ l s0 a0 K p s m c cX2_isMat yX2_isMat.cls 2 b { frames := 1, cells := K 0 - aX b, slots := K 1 - aW b, locals := 22 } 1 22 meth [] (some (.boolean)) yX2_isMat := ⟨⟨X, GA.2.1, GA.2.2.1, rfl, rfl, Nat.le_refl _, Nat.le_refl _⟩, tab_nil ht, hr, hlk, hnm, hnd⟩
  unfold f_X2_isMat at hf
  clear hr hlk hnm hnd ht
  refine a_iload_n (pc := 0) X dX2_isMat_0 rfl hl 1 rfl ?_
  refine AW.lift (fun _ _ _ _ k => lv_iconst (pc := 1) (v := (0 : Int32)) X.2.2.1 X.2.2.2.1 dX2_isMat_1 rfl k) ?_
  refine a_aload_n (pc := 2) X dX2_isMat_2 rfl hl 0 rfl ?_
  refine a_get (pc := 3) (φ := 300) pR_t X Z.1.2.1 (gw X.1 X.2.1 q228) (fun _ q => q) (by decide) dX2_isMat_3 hf (fun x3 hf => ?_)
  obtain ⟨a6, rfl, ⟨hk, hf⟩ | ⟨-, hf⟩⟩ := dv_some hf
  rotate_left
  · exact fl_none hf
  refine a_callb (pc := 6) (rs := [vI (0 : Int32), vI v1]) (avs := [vR (some a6)]) Z.1 (w_J2_size GA (some a6)) (Or.inl rfl) q1012 q78 (by decide) (by decide) dX2_isMat_6 hl.1 (Nat.le_of_ble_eq_true rfl) hf (ct_V hk ⟨by decide, by decide⟩ X (Or.inl rfl) q1012 q1720 q1011 q3486 hy_J2_size np_J2_size rfl dX2_isMat_6) (fun q h he hX => a_out (unc_of Z.2.1 rfl) Z.2.2.2.1 he hX) (fun x6 h hf => ?kk6)
  refine AW.eq (g2 := F0 m 9 ls [.int x6, .int (0 : Int32), .int v1]) rfl ?_
  refine AW.lift (fun _ _ _ _ k => lv_iconst (pc := 9) (v := (1 : Int32)) X.2.2.1 X.2.2.2.1 dX2_isMat_9 rfl k) ?_
  refine AW.lift (fun _ _ _ _ k => lv_isub (pc := 10) X.2.2.1 X.2.2.2.1 dX2_isMat_10 k) ?_
  refine a_callb (pc := 11) (rs := []) (avs := [vI v1, vI (0 : Int32), vI (x6 - (1 : Int32))]) Z.1 (w_X1_isIn GA v1 (0 : Int32) (x6 - (1 : Int32))) (Or.inl rfl) q1812 q74 (by decide) (by decide) dX2_isMat_11 hl.1 (Nat.le_of_ble_eq_true rfl) hf (ct_SN X (Or.inl rfl) q1812 q74 q1810 q1811 hy_X1_isIn np_X1_isIn rfl dX2_isMat_11) (fun q h he hX => a_out (unc_of Z.2.1 rfl) Z.2.2.2.1 he hX) (fun x11 h hf => ?kk11)
  refine AW.eq (g2 := F0 m 14 ls [.int x11]) rfl ?_
  obtain ⟨hg, hf⟩ := chk_some hf
  exact a_zreturn X Z.2.2.1 hg Z.2.2.2.1 dX2_isMat_14 hf
theorem np_X14_init : npar yX14_init.desc 0 := by unfold npar; decide +kernel
theorem hy_X14_init : yX14_init.cls ≠ "java/lang/invoke/MethodHandle" ∧ yX14_init.cls ≠ "java/lang/invoke/VarHandle" := by decide +kernel
theorem w_X14_init (GA : GA l s0 a0 K lam) (v0 : Option Nat) : AMet l s0 K lam yX14_init (Cond.code yX14_init cX14_init (1 : Nat) (Option.none : Option ClassFile.FieldType)) 7 382 [vR v0] oV (f_X14_init K v0) := by
  refine AMet.of GA.1 (plainFor_of_name (by decide +kernel)) (Nat.le_of_ble_eq_true rfl) ?_
  intro b r hf p e s m args below meth c X hr hlk hnm hnd ht ls hl
  have Z : WZ l s0 a0 K p s m c cX14_init yX14_init.cls 1 b { frames := 7, cells := K 0 - aX b, slots := K 1 - aW b, locals := 382 } 7 382 meth [] none yX14_init := ⟨⟨X, GA.2.1, GA.2.2.1, rfl, rfl, Nat.le_refl _, Nat.le_refl _⟩, tab_nil ht, hr, hlk, hnm, hnd⟩
  unfold f_X14_init at hf
  clear hr hlk hnm hnd ht
  refine a_aload_n (pc := 0) X dX14_init_0 rfl hl 0 rfl ?_
  refine AW.lift (fun _ _ _ _ k => lv_bipush (pc := 1) (v := (17 : Int32)) X.2.2.1 X.2.2.2.1 dX14_init_1 rfl k) ?_
  refine AW.lift (fun _ _ _ _ k => lv_iconst (pc := 3) (v := (0 : Int32)) X.2.2.1 X.2.2.2.1 dX14_init_3 rfl k) ?_
  obtain ⟨a4, rfl, hf⟩ := nz_some hf
  refine a_callb (pc := 4) (rs := []) (avs := [vR (some a4), vI (17 : Int32), vI (0 : Int32)]) Z.1 (w_X5_init GA (some a4) (17 : Int32) (0 : Int32)) (Or.inl rfl) q1738 q89 (by decide) (by decide) dX14_init_4 hl.1 (Nat.le_of_ble_eq_true rfl) hf (ct_I X q1738 q2926 q1737 rfl hy_X5_init np_X5_init rfl dX14_init_4) (fun q h he hX => a_out (unc_of Z.2.1 rfl) Z.2.2.2.1 he hX) (fun _ h hf => ?kk4)
  refine AW.eq (g2 := F0 m 7 ls []) rfl ?_
  exact a_return X Z.2.2.1 Z.2.2.2.1 dX14_init_7 hf
theorem np_X1_need : npar yX1_need.desc 1 := by unfold npar; decide +kernel
theorem hy_X1_need : yX1_need.cls ≠ "java/lang/invoke/MethodHandle" ∧ yX1_need.cls ≠ "java/lang/invoke/VarHandle" := by decide +kernel
theorem w_X1_need (GA : GA l s0 a0 K lam) (v0 : Int32) : AMet l s0 K lam yX1_need (Cond.code yX1_need cX1_need (1 : Nat) (Option.none : Option ClassFile.FieldType)) 8 402 [vI v0] oV (f_X1_need K v0) := by
  refine AMet.of GA.1 (plainFor_of_name (by decide +kernel)) (Nat.le_of_ble_eq_true rfl) ?_
  intro b r hf p e s m args below meth c X hr hlk hnm hnd ht ls hl
  have Z : WZ l s0 a0 K p s m c cX1_need yX1_need.cls 1 b { frames := 8, cells := K 0 - aX b, slots := K 1 - aW b, locals := 402 } 8 402 meth [] none yX1_need := ⟨⟨X, GA.2.1, GA.2.2.1, rfl, rfl, Nat.le_refl _, Nat.le_refl _⟩, tab_nil ht, hr, hlk, hnm, hnd⟩
  unfold f_X1_need at hf
  clear hr hlk hnm hnd ht
  refine a_iload_n (pc := 0) X dX1_need_0 rfl hl 0 rfl ?_
  refine AW.lift2 (fun _ _ _ _ k1 k2 => lv_if_ne (pc := 1) (tgt := 12) X.2.2.1 X.2.2.2.1 dX1_need_1 rfl k2 k1) (fun c => ?_) (fun c => ?_)
  · have hf := ite_t c hf
    refine a_new (pc := 4) (cK := 13) (n := 8) X Z.1.2.1 Z.1.2.2.1 Z.1.2.2.2.1 Z.1.2.2.2.2.1 ⟨by decide, by decide, by decide⟩ (gw X.1 X.2.1 q2914) (gw X.1 X.2.1 q2915) (gw X.1 X.2.1 q137) dX1_need_4 hf (fun x4 h hf => ?_)
    refine AW.lift (fun _ _ _ _ k => lv_dup (pc := 7) X.2.2.1 X.2.2.2.1 dX1_need_7 (cat_rf _) k) ?_
    refine a_callb (pc := 8) (rs := [vR (some x4)]) (avs := [vR (some x4)]) Z.1 (w_X14_init GA (some x4)) (Or.inl rfl) q2925 q137 (by decide) (by decide) dX1_need_8 hl.1 (Nat.le_of_ble_eq_true rfl) hf (ct_I X q2925 q2923 q2924 rfl hy_X14_init np_X14_init rfl dX1_need_8) (fun q h he hX => a_out (unc_of Z.2.1 rfl) Z.2.2.2.1 he hX) (fun _ h hf => ?kk8)
    refine AW.eq (g2 := F0 m 11 ls [va_rf (some x4)]) rfl ?_
    exact a_athrow X dX1_need_11 hf (fun q e he hX => a_out (unc_of Z.2.1 rfl) Z.2.2.2.1 he hX)
  · have hf := ite_f c hf
    exact a_return X Z.2.2.1 Z.2.2.2.1 dX1_need_12 hf
theorem np_X2_isGuard : npar yX2_isGuard.desc 1 := by unfold npar; decide +kernel
theorem hy_X2_isGuard : yX2_isGuard.cls ≠ "java/lang/invoke/MethodHandle" ∧ yX2_isGuard.cls ≠ "java/lang/invoke/VarHandle" := by decide +kernel
theorem w_X2_isGuard (GA : GA l s0 a0 K lam) (v0 : Option Nat) (v1 : Int32) : AMet l s0 K lam yX2_isGuard (Cond.code yX2_isGuard cX2_isGuard (2 : Nat) (Option.some ClassFile.FieldType.boolean)) 1 22 [vR v0, vI v1] oI (f_X2_isGuard K v0 v1) := by
  refine AMet.of GA.1 (plainFor_of_name (by decide +kernel)) (Nat.le_of_ble_eq_true rfl) ?_
  intro b r hf p e s m args below meth c X hr hlk hnm hnd ht ls hl
  have Z : WZ l s0 a0 K p s m c cX2_isGuard yX2_isGuard.cls 2 b { frames := 1, cells := K 0 - aX b, slots := K 1 - aW b, locals := 22 } 1 22 meth [] (some (.boolean)) yX2_isGuard := ⟨⟨X, GA.2.1, GA.2.2.1, rfl, rfl, Nat.le_refl _, Nat.le_refl _⟩, tab_nil ht, hr, hlk, hnm, hnd⟩
  unfold f_X2_isGuard at hf
  clear hr hlk hnm hnd ht
  refine a_iload_n (pc := 0) X dX2_isGuard_0 rfl hl 1 rfl ?_
  refine AW.lift (fun _ _ _ _ k => lv_iconst (pc := 1) (v := (0 : Int32)) X.2.2.1 X.2.2.2.1 dX2_isGuard_1 rfl k) ?_
  refine a_aload_n (pc := 2) X dX2_isGuard_2 rfl hl 0 rfl ?_
  refine a_get (pc := 3) (φ := 303) pR_t X Z.1.2.1 (gw X.1 X.2.1 q234) (fun _ q => q) (by decide) dX2_isGuard_3 hf (fun x3 hf => ?_)
  obtain ⟨a6, rfl, ⟨hk, hf⟩ | ⟨-, hf⟩⟩ := dv_some hf
  rotate_left
  · exact fl_none hf
  refine a_callb (pc := 6) (rs := [vI (0 : Int32), vI v1]) (avs := [vR (some a6)]) Z.1 (w_J2_size GA (some a6)) (Or.inl rfl) q1012 q78 (by decide) (by decide) dX2_isGuard_6 hl.1 (Nat.le_of_ble_eq_true rfl) hf (ct_V hk ⟨by decide, by decide⟩ X (Or.inl rfl) q1012 q1720 q1011 q3486 hy_J2_size np_J2_size rfl dX2_isGuard_6) (fun q h he hX => a_out (unc_of Z.2.1 rfl) Z.2.2.2.1 he hX) (fun x6 h hf => ?kk6)
  refine AW.eq (g2 := F0 m 9 ls [.int x6, .int (0 : Int32), .int v1]) rfl ?_
  refine AW.lift (fun _ _ _ _ k => lv_iconst (pc := 9) (v := (1 : Int32)) X.2.2.1 X.2.2.2.1 dX2_isGuard_9 rfl k) ?_
  refine AW.lift (fun _ _ _ _ k => lv_isub (pc := 10) X.2.2.1 X.2.2.2.1 dX2_isGuard_10 k) ?_
  refine a_callb (pc := 11) (rs := []) (avs := [vI v1, vI (0 : Int32), vI (x6 - (1 : Int32))]) Z.1 (w_X1_isIn GA v1 (0 : Int32) (x6 - (1 : Int32))) (Or.inl rfl) q1812 q74 (by decide) (by decide) dX2_isGuard_11 hl.1 (Nat.le_of_ble_eq_true rfl) hf (ct_SN X (Or.inl rfl) q1812 q74 q1810 q1811 hy_X1_isIn np_X1_isIn rfl dX2_isGuard_11) (fun q h he hX => a_out (unc_of Z.2.1 rfl) Z.2.2.2.1 he hX) (fun x11 h hf => ?kk11)
  refine AW.eq (g2 := F0 m 14 ls [.int x11]) rfl ?_
  obtain ⟨hg, hf⟩ := chk_some hf
  exact a_zreturn X Z.2.2.1 hg Z.2.2.2.1 dX2_isGuard_14 hf
theorem w_X13_deed_j215 {r : Except Nat (Option Nat) × AH} (GA : GA l s0 a0 K lam) (Z : WZ l s0 a0 K p s m c cX13_deed yX13_deed.cls 4 b R 9 3088 meth [] (some (.object "JumpHall$Deed")) yX13_deed) (v0 : Option Nat) (t0 : Int32)  {h : AH} {ls : Array Slot} (hl : LV ls 4 [(0, vR v0)]) (hf : f_X13_deed_j215 K v0 t0 h = some r) : AW s0 K lam p l e R s m args below meth c (AQ s0 K lam below oR b r s) b h (F0 m 215 ls [.int t0]) := by
  unfold f_X13_deed_j215 at hf
  have X := Z.1.1
  refine a_callb (pc := 215) (rs := []) (avs := [vI t0]) Z.1 (w_X1_need GA t0) (Or.inl rfl) q2913 q74 (by decide) (by decide) dX13_deed_215 hl.1 (Nat.le_of_ble_eq_true rfl) hf (ct_SN X (Or.inl rfl) q2913 q74 q2911 q2912 hy_X1_need np_X1_need rfl dX13_deed_215) (fun q h he hX => a_out (unc_of Z.2.1 rfl) Z.2.2.2.1 he hX) (fun _ h hf => ?kk215)
  refine AW.eq (g2 := F0 m 218 ls []) rfl ?_
  refine a_aload_n (pc := 218) X dX13_deed_218 rfl hl 0 rfl ?_
  refine a_ndy (pc := 219) (rs := []) (avs := [vR v0]) Z.1 Z.2.2.2.2.2 (siG_226 GA) hfb_26 (lw_all_tbl q3550) ⟨by decide, by decide⟩ rfl rfl rfl (by decide) hl.1 (Nat.le_of_ble_eq_true rfl) (Nat.le_of_ble_eq_true rfl) rfl dX13_deed_219 hf (fun x219 h hf => ?_)
  refine AW.eq (g2 := F0 m 224 ls [va_rf (some x219)]) rfl ?_
  exact a_areturn X Z.2.2.1 (Or.inl ⟨_, rfl⟩) Z.2.2.2.1 dX13_deed_224 hf
theorem w_X13_deed_j214 {r : Except Nat (Option Nat) × AH} (GA : GA l s0 a0 K lam) (Z : WZ l s0 a0 K p s m c cX13_deed yX13_deed.cls 4 b R 9 3088 meth [] (some (.object "JumpHall$Deed")) yX13_deed) (v0 : Option Nat)   {h : AH} {ls : Array Slot} (hl : LV ls 4 [(0, vR v0)]) (hf : f_X13_deed_j214 K v0 h = some r) : AW s0 K lam p l e R s m args below meth c (AQ s0 K lam below oR b r s) b h (F0 m 214 ls []) := by
  unfold f_X13_deed_j214 at hf
  have X := Z.1.1
  refine AW.lift (fun _ _ _ _ k => lv_iconst (pc := 214) (v := (0 : Int32)) X.2.2.1 X.2.2.2.1 dX13_deed_214 rfl k) ?_
  exact w_X13_deed_j215 GA Z v0 (0 : Int32)  (hl.sub [0] rfl) hf
theorem w_X13_deed_j267 {r : Except Nat (Option Nat) × AH} (GA : GA l s0 a0 K lam) (Z : WZ l s0 a0 K p s m c cX13_deed yX13_deed.cls 4 b R 9 3088 meth [] (some (.object "JumpHall$Deed")) yX13_deed) (v0 : Option Nat) (t0 : Int32)  {h : AH} {ls : Array Slot} (hl : LV ls 4 [(0, vR v0)]) (hf : f_X13_deed_j267 K v0 t0 h = some r) : AW s0 K lam p l e R s m args below meth c (AQ s0 K lam below oR b r s) b h (F0 m 267 ls [.int t0]) := by
  unfold f_X13_deed_j267 at hf
  have X := Z.1.1
  refine a_callb (pc := 267) (rs := []) (avs := [vI t0]) Z.1 (w_X1_need GA t0) (Or.inl rfl) q2913 q74 (by decide) (by decide) dX13_deed_267 hl.1 (Nat.le_of_ble_eq_true rfl) hf (ct_SN X (Or.inl rfl) q2913 q74 q2911 q2912 hy_X1_need np_X1_need rfl dX13_deed_267) (fun q h he hX => a_out (unc_of Z.2.1 rfl) Z.2.2.2.1 he hX) (fun _ h hf => ?kk267)
  refine AW.eq (g2 := F0 m 270 ls []) rfl ?_
  refine a_aload_n (pc := 270) X dX13_deed_270 rfl hl 0 rfl ?_
  refine a_ndy (pc := 271) (rs := []) (avs := [vR v0]) Z.1 Z.2.2.2.2.2 (siG_228 GA) hfb_28 (lw_all_tbl q3550) ⟨by decide, by decide⟩ rfl rfl rfl (by decide) hl.1 (Nat.le_of_ble_eq_true rfl) (Nat.le_of_ble_eq_true rfl) rfl dX13_deed_271 hf (fun x271 h hf => ?_)
  refine AW.eq (g2 := F0 m 276 ls [va_rf (some x271)]) rfl ?_
  exact a_areturn X Z.2.2.1 (Or.inl ⟨_, rfl⟩) Z.2.2.2.1 dX13_deed_276 hf
theorem w_X13_deed_j266 {r : Except Nat (Option Nat) × AH} (GA : GA l s0 a0 K lam) (Z : WZ l s0 a0 K p s m c cX13_deed yX13_deed.cls 4 b R 9 3088 meth [] (some (.object "JumpHall$Deed")) yX13_deed) (v0 : Option Nat)   {h : AH} {ls : Array Slot} (hl : LV ls 4 [(0, vR v0)]) (hf : f_X13_deed_j266 K v0 h = some r) : AW s0 K lam p l e R s m args below meth c (AQ s0 K lam below oR b r s) b h (F0 m 266 ls []) := by
  unfold f_X13_deed_j266 at hf
  have X := Z.1.1
  refine AW.lift (fun _ _ _ _ k => lv_iconst (pc := 266) (v := (0 : Int32)) X.2.2.1 X.2.2.2.1 dX13_deed_266 rfl k) ?_
  exact w_X13_deed_j267 GA Z v0 (0 : Int32)  (hl.sub [0] rfl) hf
theorem w_X13_deed_j304 {r : Except Nat (Option Nat) × AH} (GA : GA l s0 a0 K lam) (Z : WZ l s0 a0 K p s m c cX13_deed yX13_deed.cls 4 b R 9 3088 meth [] (some (.object "JumpHall$Deed")) yX13_deed) (v0 : Option Nat) (t0 : Int32)  {h : AH} {ls : Array Slot} (hl : LV ls 4 [(0, vR v0)]) (hf : f_X13_deed_j304 K v0 t0 h = some r) : AW s0 K lam p l e R s m args below meth c (AQ s0 K lam below oR b r s) b h (F0 m 304 ls [.int t0]) := by
  unfold f_X13_deed_j304 at hf
  have X := Z.1.1
  refine a_callb (pc := 304) (rs := []) (avs := [vI t0]) Z.1 (w_X1_need GA t0) (Or.inl rfl) q2913 q74 (by decide) (by decide) dX13_deed_304 hl.1 (Nat.le_of_ble_eq_true rfl) hf (ct_SN X (Or.inl rfl) q2913 q74 q2911 q2912 hy_X1_need np_X1_need rfl dX13_deed_304) (fun q h he hX => a_out (unc_of Z.2.1 rfl) Z.2.2.2.1 he hX) (fun _ h hf => ?kk304)
  refine AW.eq (g2 := F0 m 307 ls []) rfl ?_
  refine a_aload_n (pc := 307) X dX13_deed_307 rfl hl 0 rfl ?_
  refine a_ndy (pc := 308) (rs := []) (avs := [vR v0]) Z.1 Z.2.2.2.2.2 (siG_229 GA) hfb_29 (lw_all_tbl q3550) ⟨by decide, by decide⟩ rfl rfl rfl (by decide) hl.1 (Nat.le_of_ble_eq_true rfl) (Nat.le_of_ble_eq_true rfl) rfl dX13_deed_308 hf (fun x308 h hf => ?_)
  refine AW.eq (g2 := F0 m 313 ls [va_rf (some x308)]) rfl ?_
  exact a_areturn X Z.2.2.1 (Or.inl ⟨_, rfl⟩) Z.2.2.2.1 dX13_deed_313 hf
theorem w_X13_deed_j303 {r : Except Nat (Option Nat) × AH} (GA : GA l s0 a0 K lam) (Z : WZ l s0 a0 K p s m c cX13_deed yX13_deed.cls 4 b R 9 3088 meth [] (some (.object "JumpHall$Deed")) yX13_deed) (v0 : Option Nat)   {h : AH} {ls : Array Slot} (hl : LV ls 4 [(0, vR v0)]) (hf : f_X13_deed_j303 K v0 h = some r) : AW s0 K lam p l e R s m args below meth c (AQ s0 K lam below oR b r s) b h (F0 m 303 ls []) := by
  unfold f_X13_deed_j303 at hf
  have X := Z.1.1
  refine AW.lift (fun _ _ _ _ k => lv_iconst (pc := 303) (v := (0 : Int32)) X.2.2.1 X.2.2.2.1 dX13_deed_303 rfl k) ?_
  exact w_X13_deed_j304 GA Z v0 (0 : Int32)  (hl.sub [0] rfl) hf
theorem w_X13_deed_j339 {r : Except Nat (Option Nat) × AH} (GA : GA l s0 a0 K lam) (Z : WZ l s0 a0 K p s m c cX13_deed yX13_deed.cls 4 b R 9 3088 meth [] (some (.object "JumpHall$Deed")) yX13_deed) (v0 : Option Nat) (t0 : Int32)  {h : AH} {ls : Array Slot} (hl : LV ls 4 [(0, vR v0)]) (hf : f_X13_deed_j339 K v0 t0 h = some r) : AW s0 K lam p l e R s m args below meth c (AQ s0 K lam below oR b r s) b h (F0 m 339 ls [.int t0]) := by
  unfold f_X13_deed_j339 at hf
  have X := Z.1.1
  refine a_callb (pc := 339) (rs := []) (avs := [vI t0]) Z.1 (w_X1_need GA t0) (Or.inl rfl) q2913 q74 (by decide) (by decide) dX13_deed_339 hl.1 (Nat.le_of_ble_eq_true rfl) hf (ct_SN X (Or.inl rfl) q2913 q74 q2911 q2912 hy_X1_need np_X1_need rfl dX13_deed_339) (fun q h he hX => a_out (unc_of Z.2.1 rfl) Z.2.2.2.1 he hX) (fun _ h hf => ?kk339)
  refine AW.eq (g2 := F0 m 342 ls []) rfl ?_
  refine a_aload_n (pc := 342) X dX13_deed_342 rfl hl 0 rfl ?_
  refine a_ndy (pc := 343) (rs := []) (avs := [vR v0]) Z.1 Z.2.2.2.2.2 (siG_230 GA) hfb_30 (lw_all_tbl q3550) ⟨by decide, by decide⟩ rfl rfl rfl (by decide) hl.1 (Nat.le_of_ble_eq_true rfl) (Nat.le_of_ble_eq_true rfl) rfl dX13_deed_343 hf (fun x343 h hf => ?_)
  refine AW.eq (g2 := F0 m 348 ls [va_rf (some x343)]) rfl ?_
  exact a_areturn X Z.2.2.1 (Or.inl ⟨_, rfl⟩) Z.2.2.2.1 dX13_deed_348 hf
theorem w_X13_deed_j338 {r : Except Nat (Option Nat) × AH} (GA : GA l s0 a0 K lam) (Z : WZ l s0 a0 K p s m c cX13_deed yX13_deed.cls 4 b R 9 3088 meth [] (some (.object "JumpHall$Deed")) yX13_deed) (v0 : Option Nat)   {h : AH} {ls : Array Slot} (hl : LV ls 4 [(0, vR v0)]) (hf : f_X13_deed_j338 K v0 h = some r) : AW s0 K lam p l e R s m args below meth c (AQ s0 K lam below oR b r s) b h (F0 m 338 ls []) := by
  unfold f_X13_deed_j338 at hf
  have X := Z.1.1
  refine AW.lift (fun _ _ _ _ k => lv_iconst (pc := 338) (v := (0 : Int32)) X.2.2.1 X.2.2.2.1 dX13_deed_338 rfl k) ?_
  exact w_X13_deed_j339 GA Z v0 (0 : Int32)  (hl.sub [0] rfl) hf
theorem w_X13_deed_j149 {r : Except Nat (Option Nat) × AH} (GA : GA l s0 a0 K lam) (Z : WZ l s0 a0 K p s m c cX13_deed yX13_deed.cls 4 b R 9 3088 meth [] (some (.object "JumpHall$Deed")) yX13_deed) (v0 : Option Nat) (v1 : Option Nat) (v3 : Int32)   {h : AH} {ls : Array Slot} (hl : LV ls 4 [(0, vR v0), (1, vR v1), (3, vI v3)]) (hf : f_X13_deed_j149 K v0 v1 v3 h = some r) : AW s0 K lam p l e R s m args below meth c (AQ s0 K lam below oR b r s) b h (F0 m 149 ls []) := by
  unfold f_X13_deed_j149 at hf
  have X := Z.1.1
  refine a_iload_n (pc := 149) X dX13_deed_149 rfl hl 2 rfl ?_
  by_cases c0 : v3 = (0 : Int32)
  · have hf := ite_t c0 hf
    refine AW.lift (fun _ _ _ _ k => lv_tableIn (pc := 150) (tgt := 188) (off := 38) X.2.2.1 X.2.2.2.1 dX13_deed_150 (by rw [c0]; decide) (by rw [c0]; decide) (by rw [c0]; rfl) rfl k) ?_
    refine a_aload_n (pc := 188) X dX13_deed_188 rfl hl 1 rfl ?_
    refine a_aload_n (pc := 189) X dX13_deed_189 rfl hl 0 rfl ?_
    refine a_get (pc := 190) (φ := 1001) pI_t X Z.1.2.1 (gw X.1 X.2.1 q2873) (fun _ q => q) (by decide) dX13_deed_190 hf (fun x190 hf => ?_)
    obtain ⟨a193, rfl, ⟨hk, hf⟩ | ⟨-, hf⟩⟩ := dv_some hf
    rotate_left
    · exact fl_none hf
    refine a_callb (pc := 193) (rs := []) (avs := [vR (some a193), vI x190]) Z.1 (w_X2_isJumper GA (some a193) x190) (Or.inl rfl) q2017 q75 (by decide) (by decide) dX13_deed_193 hl.1 (Nat.le_of_ble_eq_true rfl) hf (ct_V hk ⟨by decide, by decide⟩ X (Or.inl rfl) q2017 q2909 q2015 q2016 hy_X2_isJumper np_X2_isJumper rfl dX13_deed_193) (fun q h he hX => a_out (unc_of Z.2.1 rfl) Z.2.2.2.1 he hX) (fun x193 h hf => ?kk193)
    refine AW.eq (g2 := F0 m 196 ls [.int x193]) rfl ?_
    refine AW.lift2 (fun _ _ _ _ k1 k2 => lv_if_eq (pc := 196) (tgt := 214) X.2.2.1 X.2.2.2.1 dX13_deed_196 rfl k1 k2) (fun c => ?_) (fun c => ?_)
    · have hf := ite_t c hf
      exact w_X13_deed_j214 GA Z v0   (hl.sub [0] rfl) hf
    · have hf := ite_f c hf
      refine a_aload_n (pc := 199) X dX13_deed_199 rfl hl 1 rfl ?_
      refine a_aload_n (pc := 200) X dX13_deed_200 rfl hl 0 rfl ?_
      refine a_get (pc := 201) (φ := 1002) pI_t X Z.1.2.1 (gw X.1 X.2.1 q2874) (fun _ q => q) (by decide) dX13_deed_201 hf (fun x201 hf => ?_)
      rcases dv_someS hf with ⟨hk, hf⟩ | ⟨-, hf⟩
      rotate_left
      · exact fl_none hf
      refine a_callb (pc := 204) (rs := []) (avs := [vR (some a193), vI x201]) Z.1 (w_X2_isMat GA (some a193) x201) (Or.inl rfl) q1809 q75 (by decide) (by decide) dX13_deed_204 hl.1 (Nat.le_of_ble_eq_true rfl) hf (ct_V hk ⟨by decide, by decide⟩ X (Or.inl rfl) q1809 q2910 q1807 q1808 hy_X2_isMat np_X2_isMat rfl dX13_deed_204) (fun q h he hX => a_out (unc_of Z.2.1 rfl) Z.2.2.2.1 he hX) (fun x204 h hf => ?kk204)
      refine AW.eq (g2 := F0 m 207 ls [.int x204]) rfl ?_
      refine AW.lift2 (fun _ _ _ _ k1 k2 => lv_if_eq (pc := 207) (tgt := 214) X.2.2.1 X.2.2.2.1 dX13_deed_207 rfl k1 k2) (fun c => ?_) (fun c => ?_)
      · have hf := ite_t c hf
        exact w_X13_deed_j214 GA Z v0   (hl.sub [0] rfl) hf
      · have hf := ite_f c hf
        refine AW.lift (fun _ _ _ _ k => lv_iconst (pc := 210) (v := (1 : Int32)) X.2.2.1 X.2.2.2.1 dX13_deed_210 rfl k) ?_
        refine AW.lift (fun _ _ _ _ k => lv_goto (pc := 211) (tgt := 215) X.2.2.1 X.2.2.2.1 dX13_deed_211 rfl k) ?_
        exact w_X13_deed_j215 GA Z v0 (1 : Int32)  (hl.sub [0] rfl) hf
  have hf := ite_f c0 hf
  by_cases c1 : v3 = (1 : Int32)
  · have hf := ite_t c1 hf
    refine AW.lift (fun _ _ _ _ k => lv_tableIn (pc := 150) (tgt := 225) (off := 75) X.2.2.1 X.2.2.2.1 dX13_deed_150 (by rw [c1]; decide) (by rw [c1]; decide) (by rw [c1]; rfl) rfl k) ?_
    refine a_aload_n (pc := 225) X dX13_deed_225 rfl hl 1 rfl ?_
    refine a_aload_n (pc := 226) X dX13_deed_226 rfl hl 0 rfl ?_
    refine a_get (pc := 227) (φ := 1001) pI_t X Z.1.2.1 (gw X.1 X.2.1 q2873) (fun _ q => q) (by decide) dX13_deed_227 hf (fun x227 hf => ?_)
    obtain ⟨a230, rfl, ⟨hk, hf⟩ | ⟨-, hf⟩⟩ := dv_some hf
    rotate_left
    · exact fl_none hf
    refine a_callb (pc := 230) (rs := []) (avs := [vR (some a230), vI x227]) Z.1 (w_X2_isJumper GA (some a230) x227) (Or.inl rfl) q2017 q75 (by decide) (by decide) dX13_deed_230 hl.1 (Nat.le_of_ble_eq_true rfl) hf (ct_V hk ⟨by decide, by decide⟩ X (Or.inl rfl) q2017 q2909 q2015 q2016 hy_X2_isJumper np_X2_isJumper rfl dX13_deed_230) (fun q h he hX => a_out (unc_of Z.2.1 rfl) Z.2.2.2.1 he hX) (fun x230 h hf => ?kk230)
    refine AW.eq (g2 := F0 m 233 ls [.int x230]) rfl ?_
    refine a_callb (pc := 233) (rs := []) (avs := [vI x230]) Z.1 (w_X1_need GA x230) (Or.inl rfl) q2913 q74 (by decide) (by decide) dX13_deed_233 hl.1 (Nat.le_of_ble_eq_true rfl) hf (ct_SN X (Or.inl rfl) q2913 q74 q2911 q2912 hy_X1_need np_X1_need rfl dX13_deed_233) (fun q h he hX => a_out (unc_of Z.2.1 rfl) Z.2.2.2.1 he hX) (fun _ h hf => ?kk233)
    refine AW.eq (g2 := F0 m 236 ls []) rfl ?_
    refine a_aload_n (pc := 236) X dX13_deed_236 rfl hl 0 rfl ?_
    refine a_ndy (pc := 237) (rs := []) (avs := [vR v0]) Z.1 Z.2.2.2.2.2 (siG_227 GA) hfb_27 (lw_all_tbl q3550) ⟨by decide, by decide⟩ rfl rfl rfl (by decide) hl.1 (Nat.le_of_ble_eq_true rfl) (Nat.le_of_ble_eq_true rfl) rfl dX13_deed_237 hf (fun x237 h hf => ?_)
    refine AW.eq (g2 := F0 m 242 ls [va_rf (some x237)]) rfl ?_
    exact a_areturn X Z.2.2.1 (Or.inl ⟨_, rfl⟩) Z.2.2.2.1 dX13_deed_242 hf
  have hf := ite_f c1 hf
  by_cases c2 : v3 = (2 : Int32)
  · have hf := ite_t c2 hf
    refine AW.lift (fun _ _ _ _ k => lv_tableIn (pc := 150) (tgt := 243) (off := 93) X.2.2.1 X.2.2.2.1 dX13_deed_150 (by rw [c2]; decide) (by rw [c2]; decide) (by rw [c2]; rfl) rfl k) ?_
    refine a_aload_n (pc := 243) X dX13_deed_243 rfl hl 1 rfl ?_
    refine a_aload_n (pc := 244) X dX13_deed_244 rfl hl 0 rfl ?_
    refine a_get (pc := 245) (φ := 1001) pI_t X Z.1.2.1 (gw X.1 X.2.1 q2873) (fun _ q => q) (by decide) dX13_deed_245 hf (fun x245 hf => ?_)
    obtain ⟨a248, rfl, ⟨hk, hf⟩ | ⟨-, hf⟩⟩ := dv_some hf
    rotate_left
    · exact fl_none hf
    refine a_callb (pc := 248) (rs := []) (avs := [vR (some a248), vI x245]) Z.1 (w_X2_isJumper GA (some a248) x245) (Or.inl rfl) q2017 q75 (by decide) (by decide) dX13_deed_248 hl.1 (Nat.le_of_ble_eq_true rfl) hf (ct_V hk ⟨by decide, by decide⟩ X (Or.inl rfl) q2017 q2909 q2015 q2016 hy_X2_isJumper np_X2_isJumper rfl dX13_deed_248) (fun q h he hX => a_out (unc_of Z.2.1 rfl) Z.2.2.2.1 he hX) (fun x248 h hf => ?kk248)
    refine AW.eq (g2 := F0 m 251 ls [.int x248]) rfl ?_
    refine AW.lift2 (fun _ _ _ _ k1 k2 => lv_if_eq (pc := 251) (tgt := 266) X.2.2.1 X.2.2.2.1 dX13_deed_251 rfl k1 k2) (fun c => ?_) (fun c => ?_)
    · have hf := ite_t c hf
      exact w_X13_deed_j266 GA Z v0   (hl.sub [0] rfl) hf
    · have hf := ite_f c hf
      refine a_aload_n (pc := 254) X dX13_deed_254 rfl hl 0 rfl ?_
      refine a_get (pc := 255) (φ := 1002) pI_t X Z.1.2.1 (gw X.1 X.2.1 q2874) (fun _ q => q) (by decide) dX13_deed_255 hf (fun x255 hf => ?_)
      refine AW.lift (fun _ _ _ _ k => lv_iconst (pc := 258) (v := (3 : Int32)) X.2.2.1 X.2.2.2.1 dX13_deed_258 rfl k) ?_
      refine AW.lift2 (fun _ _ _ _ k1 k2 => lv_icmp_ge (pc := 259) (tgt := 266) X.2.2.1 X.2.2.2.1 dX13_deed_259 rfl k1 k2) (fun c => ?_) (fun c => ?_)
      · have hf := ite_t c hf
        exact w_X13_deed_j266 GA Z v0   (hl.sub [0] rfl) hf
      · have hf := ite_f c hf
        refine AW.lift (fun _ _ _ _ k => lv_iconst (pc := 262) (v := (1 : Int32)) X.2.2.1 X.2.2.2.1 dX13_deed_262 rfl k) ?_
        refine AW.lift (fun _ _ _ _ k => lv_goto (pc := 263) (tgt := 267) X.2.2.1 X.2.2.2.1 dX13_deed_263 rfl k) ?_
        exact w_X13_deed_j267 GA Z v0 (1 : Int32)  (hl.sub [0] rfl) hf
  have hf := ite_f c2 hf
  by_cases c3 : v3 = (3 : Int32)
  · have hf := ite_t c3 hf
    refine AW.lift (fun _ _ _ _ k => lv_tableIn (pc := 150) (tgt := 277) (off := 127) X.2.2.1 X.2.2.2.1 dX13_deed_150 (by rw [c3]; decide) (by rw [c3]; decide) (by rw [c3]; rfl) rfl k) ?_
    refine a_aload_n (pc := 277) X dX13_deed_277 rfl hl 1 rfl ?_
    refine a_aload_n (pc := 278) X dX13_deed_278 rfl hl 0 rfl ?_
    refine a_get (pc := 279) (φ := 1001) pI_t X Z.1.2.1 (gw X.1 X.2.1 q2873) (fun _ q => q) (by decide) dX13_deed_279 hf (fun x279 hf => ?_)
    obtain ⟨a282, rfl, ⟨hk, hf⟩ | ⟨-, hf⟩⟩ := dv_some hf
    rotate_left
    · exact fl_none hf
    refine a_callb (pc := 282) (rs := []) (avs := [vR (some a282), vI x279]) Z.1 (w_X2_isGuard GA (some a282) x279) (Or.inl rfl) q2369 q75 (by decide) (by decide) dX13_deed_282 hl.1 (Nat.le_of_ble_eq_true rfl) hf (ct_V hk ⟨by decide, by decide⟩ X (Or.inl rfl) q2369 q2943 q2367 q2368 hy_X2_isGuard np_X2_isGuard rfl dX13_deed_282) (fun q h he hX => a_out (unc_of Z.2.1 rfl) Z.2.2.2.1 he hX) (fun x282 h hf => ?kk282)
    refine AW.eq (g2 := F0 m 285 ls [.int x282]) rfl ?_
    refine AW.lift2 (fun _ _ _ _ k1 k2 => lv_if_eq (pc := 285) (tgt := 303) X.2.2.1 X.2.2.2.1 dX13_deed_285 rfl k1 k2) (fun c => ?_) (fun c => ?_)
    · have hf := ite_t c hf
      exact w_X13_deed_j303 GA Z v0   (hl.sub [0] rfl) hf
    · have hf := ite_f c hf
      refine a_aload_n (pc := 288) X dX13_deed_288 rfl hl 1 rfl ?_
      refine a_aload_n (pc := 289) X dX13_deed_289 rfl hl 0 rfl ?_
      refine a_get (pc := 290) (φ := 1002) pI_t X Z.1.2.1 (gw X.1 X.2.1 q2874) (fun _ q => q) (by decide) dX13_deed_290 hf (fun x290 hf => ?_)
      rcases dv_someS hf with ⟨hk, hf⟩ | ⟨-, hf⟩
      rotate_left
      · exact fl_none hf
      refine a_callb (pc := 293) (rs := []) (avs := [vR (some a282), vI x290]) Z.1 (w_X2_isMat GA (some a282) x290) (Or.inl rfl) q1809 q75 (by decide) (by decide) dX13_deed_293 hl.1 (Nat.le_of_ble_eq_true rfl) hf (ct_V hk ⟨by decide, by decide⟩ X (Or.inl rfl) q1809 q2910 q1807 q1808 hy_X2_isMat np_X2_isMat rfl dX13_deed_293) (fun q h he hX => a_out (unc_of Z.2.1 rfl) Z.2.2.2.1 he hX) (fun x293 h hf => ?kk293)
      refine AW.eq (g2 := F0 m 296 ls [.int x293]) rfl ?_
      refine AW.lift2 (fun _ _ _ _ k1 k2 => lv_if_eq (pc := 296) (tgt := 303) X.2.2.1 X.2.2.2.1 dX13_deed_296 rfl k1 k2) (fun c => ?_) (fun c => ?_)
      · have hf := ite_t c hf
        exact w_X13_deed_j303 GA Z v0   (hl.sub [0] rfl) hf
      · have hf := ite_f c hf
        refine AW.lift (fun _ _ _ _ k => lv_iconst (pc := 299) (v := (1 : Int32)) X.2.2.1 X.2.2.2.1 dX13_deed_299 rfl k) ?_
        refine AW.lift (fun _ _ _ _ k => lv_goto (pc := 300) (tgt := 304) X.2.2.1 X.2.2.2.1 dX13_deed_300 rfl k) ?_
        exact w_X13_deed_j304 GA Z v0 (1 : Int32)  (hl.sub [0] rfl) hf
  have hf := ite_f c3 hf
  by_cases c4 : v3 = (4 : Int32)
  · have hf := ite_t c4 hf
    refine AW.lift (fun _ _ _ _ k => lv_tableIn (pc := 150) (tgt := 314) (off := 164) X.2.2.1 X.2.2.2.1 dX13_deed_150 (by rw [c4]; decide) (by rw [c4]; decide) (by rw [c4]; rfl) rfl k) ?_
    refine a_aload_n (pc := 314) X dX13_deed_314 rfl hl 1 rfl ?_
    refine a_aload_n (pc := 315) X dX13_deed_315 rfl hl 0 rfl ?_
    refine a_get (pc := 316) (φ := 1001) pI_t X Z.1.2.1 (gw X.1 X.2.1 q2873) (fun _ q => q) (by decide) dX13_deed_316 hf (fun x316 hf => ?_)
    obtain ⟨a319, rfl, ⟨hk, hf⟩ | ⟨-, hf⟩⟩ := dv_some hf
    rotate_left
    · exact fl_none hf
    refine a_callb (pc := 319) (rs := []) (avs := [vR (some a319), vI x316]) Z.1 (w_X2_isMat GA (some a319) x316) (Or.inl rfl) q1809 q75 (by decide) (by decide) dX13_deed_319 hl.1 (Nat.le_of_ble_eq_true rfl) hf (ct_V hk ⟨by decide, by decide⟩ X (Or.inl rfl) q1809 q2910 q1807 q1808 hy_X2_isMat np_X2_isMat rfl dX13_deed_319) (fun q h he hX => a_out (unc_of Z.2.1 rfl) Z.2.2.2.1 he hX) (fun x319 h hf => ?kk319)
    refine AW.eq (g2 := F0 m 322 ls [.int x319]) rfl ?_
    refine AW.lift2 (fun _ _ _ _ k1 k2 => lv_if_eq (pc := 322) (tgt := 338) X.2.2.1 X.2.2.2.1 dX13_deed_322 rfl k1 k2) (fun c => ?_) (fun c => ?_)
    · have hf := ite_t c hf
      exact w_X13_deed_j338 GA Z v0   (hl.sub [0] rfl) hf
    · have hf := ite_f c hf
      refine a_aload_n (pc := 325) X dX13_deed_325 rfl hl 0 rfl ?_
      refine a_get (pc := 326) (φ := 1002) pI_t X Z.1.2.1 (gw X.1 X.2.1 q2874) (fun _ q => q) (by decide) dX13_deed_326 hf (fun x326 hf => ?_)
      refine AW.lift (fun _ _ _ _ k => lv_bipush (pc := 329) (v := (8 : Int32)) X.2.2.1 X.2.2.2.1 dX13_deed_329 rfl k) ?_
      refine AW.lift2 (fun _ _ _ _ k1 k2 => lv_icmp_ge (pc := 331) (tgt := 338) X.2.2.1 X.2.2.2.1 dX13_deed_331 rfl k1 k2) (fun c => ?_) (fun c => ?_)
      · have hf := ite_t c hf
        exact w_X13_deed_j338 GA Z v0   (hl.sub [0] rfl) hf
      · have hf := ite_f c hf
        refine AW.lift (fun _ _ _ _ k => lv_iconst (pc := 334) (v := (1 : Int32)) X.2.2.1 X.2.2.2.1 dX13_deed_334 rfl k) ?_
        refine AW.lift (fun _ _ _ _ k => lv_goto (pc := 335) (tgt := 339) X.2.2.1 X.2.2.2.1 dX13_deed_335 rfl k) ?_
        exact w_X13_deed_j339 GA Z v0 (1 : Int32)  (hl.sub [0] rfl) hf
  have hf := ite_f c4 hf
  by_cases c5 : v3 = (5 : Int32)
  · have hf := ite_t c5 hf
    refine AW.lift (fun _ _ _ _ k => lv_tableIn (pc := 150) (tgt := 349) (off := 199) X.2.2.1 X.2.2.2.1 dX13_deed_150 (by rw [c5]; decide) (by rw [c5]; decide) (by rw [c5]; rfl) rfl k) ?_
    refine a_aload_n (pc := 349) X dX13_deed_349 rfl hl 1 rfl ?_
    refine a_aload_n (pc := 350) X dX13_deed_350 rfl hl 0 rfl ?_
    refine a_get (pc := 351) (φ := 1001) pI_t X Z.1.2.1 (gw X.1 X.2.1 q2873) (fun _ q => q) (by decide) dX13_deed_351 hf (fun x351 hf => ?_)
    obtain ⟨a354, rfl, ⟨hk, hf⟩ | ⟨-, hf⟩⟩ := dv_some hf
    rotate_left
    · exact fl_none hf
    refine a_callb (pc := 354) (rs := []) (avs := [vR (some a354), vI x351]) Z.1 (w_X2_isMat GA (some a354) x351) (Or.inl rfl) q1809 q75 (by decide) (by decide) dX13_deed_354 hl.1 (Nat.le_of_ble_eq_true rfl) hf (ct_V hk ⟨by decide, by decide⟩ X (Or.inl rfl) q1809 q2910 q1807 q1808 hy_X2_isMat np_X2_isMat rfl dX13_deed_354) (fun q h he hX => a_out (unc_of Z.2.1 rfl) Z.2.2.2.1 he hX) (fun x354 h hf => ?kk354)
    refine AW.eq (g2 := F0 m 357 ls [.int x354]) rfl ?_
    refine a_callb (pc := 357) (rs := []) (avs := [vI x354]) Z.1 (w_X1_need GA x354) (Or.inl rfl) q2913 q74 (by decide) (by decide) dX13_deed_357 hl.1 (Nat.le_of_ble_eq_true rfl) hf (ct_SN X (Or.inl rfl) q2913 q74 q2911 q2912 hy_X1_need np_X1_need rfl dX13_deed_357) (fun q h he hX => a_out (unc_of Z.2.1 rfl) Z.2.2.2.1 he hX) (fun _ h hf => ?kk357)
    refine AW.eq (g2 := F0 m 360 ls []) rfl ?_
    refine a_aload_n (pc := 360) X dX13_deed_360 rfl hl 0 rfl ?_
    refine a_ndy (pc := 361) (rs := []) (avs := [vR v0]) Z.1 Z.2.2.2.2.2 (siG_231 GA) hfb_31 (lw_all_tbl q3550) ⟨by decide, by decide⟩ rfl rfl rfl (by decide) hl.1 (Nat.le_of_ble_eq_true rfl) (Nat.le_of_ble_eq_true rfl) rfl dX13_deed_361 hf (fun x361 h hf => ?_)
    refine AW.eq (g2 := F0 m 366 ls [va_rf (some x361)]) rfl ?_
    exact a_areturn X Z.2.2.1 (Or.inl ⟨_, rfl⟩) Z.2.2.2.1 dX13_deed_366 hf
  have hf := ite_f c5 hf
  have n0 := lv_neT (a := 0) c0 rfl
  have n1 := lv_neT (a := 1) c1 rfl
  have n2 := lv_neT (a := 2) c2 rfl
  have n3 := lv_neT (a := 3) c3 rfl
  have n4 := lv_neT (a := 4) c4 rfl
  have n5 := lv_neT (a := 5) c5 rfl
  refine AW.lift (fun _ _ _ _ k => lv_tableOut (pc := 150) (tgt := 367) X.2.2.1 X.2.2.2.1 dX13_deed_150 (by omega) rfl k) ?_
  refine a_aload_n (pc := 367) X dX13_deed_367 rfl hl 0 rfl ?_
  refine a_get (pc := 368) (φ := 1001) pI_t X Z.1.2.1 (gw X.1 X.2.1 q2873) (fun _ q => q) (by decide) dX13_deed_368 hf (fun x368 hf => ?_)
  refine AW.lift (fun _ _ _ _ k => lv_iconst (pc := 371) (v := (1 : Int32)) X.2.2.1 X.2.2.2.1 dX13_deed_371 rfl k) ?_
  refine AW.lift (fun _ _ _ _ k => lv_bipush (pc := 372) (v := (60 : Int32)) X.2.2.1 X.2.2.2.1 dX13_deed_372 rfl k) ?_
  refine a_callb (pc := 374) (rs := []) (avs := [vI x368, vI (1 : Int32), vI (60 : Int32)]) Z.1 (w_X1_isIn GA x368 (1 : Int32) (60 : Int32)) (Or.inl rfl) q1812 q74 (by decide) (by decide) dX13_deed_374 hl.1 (Nat.le_of_ble_eq_true rfl) hf (ct_SN X (Or.inl rfl) q1812 q74 q2956 q1811 hy_X1_isIn np_X1_isIn rfl dX13_deed_374) (fun q h he hX => a_out (unc_of Z.2.1 rfl) Z.2.2.2.1 he hX) (fun x374 h hf => ?kk374)
  refine AW.eq (g2 := F0 m 377 ls [.int x374]) rfl ?_
  refine a_callb (pc := 377) (rs := []) (avs := [vI x374]) Z.1 (w_X1_need GA x374) (Or.inl rfl) q2913 q74 (by decide) (by decide) dX13_deed_377 hl.1 (Nat.le_of_ble_eq_true rfl) hf (ct_SN X (Or.inl rfl) q2913 q74 q2911 q2912 hy_X1_need np_X1_need rfl dX13_deed_377) (fun q h he hX => a_out (unc_of Z.2.1 rfl) Z.2.2.2.1 he hX) (fun _ h hf => ?kk377)
  refine AW.eq (g2 := F0 m 380 ls []) rfl ?_
  refine a_aload_n (pc := 380) X dX13_deed_380 rfl hl 0 rfl ?_
  refine a_ndy (pc := 381) (rs := []) (avs := [vR v0]) Z.1 Z.2.2.2.2.2 (siG_232 GA) hfb_32 (lw_all_tbl q3550) ⟨by decide, by decide⟩ rfl rfl rfl (by decide) hl.1 (Nat.le_of_ble_eq_true rfl) (Nat.le_of_ble_eq_true rfl) rfl dX13_deed_381 hf (fun x381 h hf => ?_)
  refine AW.eq (g2 := F0 m 386 ls [va_rf (some x381)]) rfl ?_
  exact a_areturn X Z.2.2.1 (Or.inl ⟨_, rfl⟩) Z.2.2.2.1 dX13_deed_386 hf
theorem np_X13_deed : npar yX13_deed.desc 1 := by unfold npar; decide +kernel
theorem hy_X13_deed : yX13_deed.cls ≠ "java/lang/invoke/MethodHandle" ∧ yX13_deed.cls ≠ "java/lang/invoke/VarHandle" := by decide +kernel
theorem w_X13_deed (GA : GA l s0 a0 K lam) (v0 : Option Nat) (v1 : Option Nat) : AMet l s0 K lam yX13_deed (Cond.code yX13_deed cX13_deed (4 : Nat) (Option.some (ClassFile.FieldType.object "JumpHall$Deed"))) 9 3088 [vR v0, vR v1] oR (f_X13_deed K v0 v1) := by
  refine AMet.of GA.1 (plainFor_of_name (by decide +kernel)) (Nat.le_of_ble_eq_true rfl) ?_
  intro b r hf p e s m args below meth c X hr hlk hnm hnd ht ls hl
  have Z : WZ l s0 a0 K p s m c cX13_deed yX13_deed.cls 4 b { frames := 9, cells := K 0 - aX b, slots := K 1 - aW b, locals := 3088 } 9 3088 meth [] (some (.object "JumpHall$Deed")) yX13_deed := ⟨⟨X, GA.2.1, GA.2.2.1, rfl, rfl, Nat.le_refl _, Nat.le_refl _⟩, tab_nil ht, hr, hlk, hnm, hnd⟩
  unfold f_X13_deed at hf
  clear hr hlk hnm hnd ht
  refine a_aload_n (pc := 0) X dX13_deed_0 rfl hl 0 rfl ?_
  refine a_get (pc := 1) (φ := 1000) pR_t X Z.1.2.1 (gw X.1 X.2.1 q2872) (fun _ q => q) (by decide) dX13_deed_1 hf (fun x1 hf => ?_)
  refine a_astore_n (pc := 4) X dX13_deed_4 rfl hl (by decide) (lv' := [(2, vR x1), (0, vR v0), (1, vR v1)]) rfl (fun ls hl => ?_)
  refine AW.lift (fun _ _ _ _ k => lv_iconst (pc := 5) (v := (-1 : Int32)) X.2.2.1 X.2.2.2.1 dX13_deed_5 rfl k) ?_
  refine a_istore_n (pc := 6) X dX13_deed_6 rfl hl (by decide) (lv' := [(3, vI (-1 : Int32)), (2, vR x1), (0, vR v0), (1, vR v1)]) rfl (fun ls hl => ?_)
  refine a_aload_n (pc := 7) X dX13_deed_7 rfl hl 1 rfl ?_
  obtain ⟨a8, rfl, ⟨hk, hf⟩ | ⟨-, hf⟩⟩ := dv_some hf
  rotate_left
  · exact fl_none hf
  refine a_callb (pc := 8) (rs := []) (avs := [vR (some a8)]) Z.1 (w_J7_hashCode GA (some a8)) (Or.inl rfl) q1522 q84 (by decide) (by decide) dX13_deed_8 hl.1 (Nat.le_of_ble_eq_true rfl) hf (ct_V hk ⟨by decide, by decide⟩ X (Or.inl rfl) q1522 q2901 q1521 q3493 hy_J7_hashCode np_J7_hashCode rfl dX13_deed_8) (fun q h he hX => a_out (unc_of Z.2.1 rfl) Z.2.2.2.1 he hX) (fun x8 h hf => ?kk8)
  refine AW.eq (g2 := F0 m 11 ls [.int x8]) rfl ?_
  by_cases c0 : x8 = (3739 : Int32)
  · have hf := ite_t c0 hf
    refine AW.lift (fun _ _ _ _ k => lv_lookup (pc := 11) (tgt := 68) (off := 57) X.2.2.1 X.2.2.2.1 dX13_deed_11 (by decide) (by rw [c0]; rfl) rfl k) ?_
    refine a_aload_n (pc := 68) X dX13_deed_68 rfl hl 1 rfl ?_
    refine a_ldcS (pc := 69) X (vk_R.warm X.2.1 (sr_C_28 GA)) dX13_deed_69 ?_
    rcases dv_someS hf with ⟨hk, hf⟩ | ⟨-, hf⟩
    rotate_left
    · exact fl_none hf
    refine a_callb (pc := 71) (rs := []) (avs := [vR (some a8), vR (some (K 14))]) Z.1 (w_J7_equals GA (some a8) (some (K 14))) (Or.inl rfl) q1628 q84 (by decide) (by decide) dX13_deed_71 hl.1 (Nat.le_of_ble_eq_true rfl) hf (ct_V hk ⟨by decide, by decide⟩ X (Or.inl rfl) q1628 q2903 q1627 q3494 hy_J7_equals np_J7_equals rfl dX13_deed_71) (fun q h he hX => a_out (unc_of Z.2.1 rfl) Z.2.2.2.1 he hX) (fun x71 h hf => ?kk71)
    refine AW.eq (g2 := F0 m 74 ls [.int x71]) rfl ?_
    refine AW.lift2 (fun _ _ _ _ k1 k2 => lv_if_eq (pc := 74) (tgt := 149) X.2.2.1 X.2.2.2.1 dX13_deed_74 rfl k1 k2) (fun c => ?_) (fun c => ?_)
    · have hf := ite_t c hf
      exact w_X13_deed_j149 GA Z v0 v1 (-1 : Int32)   (hl.sub [2, 3, 0] rfl) hf
    · have hf := ite_f c hf
      refine AW.lift (fun _ _ _ _ k => lv_iconst (pc := 77) (v := (0 : Int32)) X.2.2.1 X.2.2.2.1 dX13_deed_77 rfl k) ?_
      refine a_istore_n (pc := 78) X dX13_deed_78 rfl hl (by decide) (lv' := [(3, vI (0 : Int32)), (2, vR (some a8)), (0, vR v0), (1, vR v1)]) rfl (fun ls hl => ?_)
      refine AW.lift (fun _ _ _ _ k => lv_goto (pc := 79) (tgt := 149) X.2.2.1 X.2.2.2.1 dX13_deed_79 rfl k) ?_
      exact w_X13_deed_j149 GA Z v0 v1 (0 : Int32)   (hl.sub [2, 3, 0] rfl) hf
  have hf := ite_f c0 hf
  by_cases c1 : x8 = (101397 : Int32)
  · have hf := ite_t c1 hf
    refine AW.lift (fun _ _ _ _ k => lv_lookup (pc := 11) (tgt := 124) (off := 113) X.2.2.1 X.2.2.2.1 dX13_deed_11 (by decide) (by rw [c1]; rfl) rfl k) ?_
    refine a_aload_n (pc := 124) X dX13_deed_124 rfl hl 1 rfl ?_
    refine a_ldcS (pc := 125) X (vk_R.warm X.2.1 (sr_C_40 GA)) dX13_deed_125 ?_
    rcases dv_someS hf with ⟨hk, hf⟩ | ⟨-, hf⟩
    rotate_left
    · exact fl_none hf
    refine a_callb (pc := 127) (rs := []) (avs := [vR (some a8), vR (some (K 18))]) Z.1 (w_J7_equals GA (some a8) (some (K 18))) (Or.inl rfl) q1628 q84 (by decide) (by decide) dX13_deed_127 hl.1 (Nat.le_of_ble_eq_true rfl) hf (ct_V hk ⟨by decide, by decide⟩ X (Or.inl rfl) q1628 q2903 q1627 q3494 hy_J7_equals np_J7_equals rfl dX13_deed_127) (fun q h he hX => a_out (unc_of Z.2.1 rfl) Z.2.2.2.1 he hX) (fun x127 h hf => ?kk127)
    refine AW.eq (g2 := F0 m 130 ls [.int x127]) rfl ?_
    refine AW.lift2 (fun _ _ _ _ k1 k2 => lv_if_eq (pc := 130) (tgt := 149) X.2.2.1 X.2.2.2.1 dX13_deed_130 rfl k1 k2) (fun c => ?_) (fun c => ?_)
    · have hf := ite_t c hf
      exact w_X13_deed_j149 GA Z v0 v1 (-1 : Int32)   (hl.sub [2, 3, 0] rfl) hf
    · have hf := ite_f c hf
      refine AW.lift (fun _ _ _ _ k => lv_iconst (pc := 133) (v := (4 : Int32)) X.2.2.1 X.2.2.2.1 dX13_deed_133 rfl k) ?_
      refine a_istore_n (pc := 134) X dX13_deed_134 rfl hl (by decide) (lv' := [(3, vI (4 : Int32)), (2, vR (some a8)), (0, vR v0), (1, vR v1)]) rfl (fun ls hl => ?_)
      refine AW.lift (fun _ _ _ _ k => lv_goto (pc := 135) (tgt := 149) X.2.2.1 X.2.2.2.1 dX13_deed_135 rfl k) ?_
      exact w_X13_deed_j149 GA Z v0 v1 (4 : Int32)   (hl.sub [2, 3, 0] rfl) hf
  have hf := ite_f c1 hf
  by_cases c2 : x8 = (3089570 : Int32)
  · have hf := ite_t c2 hf
    refine AW.lift (fun _ _ _ _ k => lv_lookup (pc := 11) (tgt := 82) (off := 71) X.2.2.1 X.2.2.2.1 dX13_deed_11 (by decide) (by rw [c2]; rfl) rfl k) ?_
    refine a_aload_n (pc := 82) X dX13_deed_82 rfl hl 1 rfl ?_
    refine a_ldcS (pc := 83) X (vk_R.warm X.2.1 (sr_C_34 GA)) dX13_deed_83 ?_
    rcases dv_someS hf with ⟨hk, hf⟩ | ⟨-, hf⟩
    rotate_left
    · exact fl_none hf
    refine a_callb (pc := 85) (rs := []) (avs := [vR (some a8), vR (some (K 15))]) Z.1 (w_J7_equals GA (some a8) (some (K 15))) (Or.inl rfl) q1628 q84 (by decide) (by decide) dX13_deed_85 hl.1 (Nat.le_of_ble_eq_true rfl) hf (ct_V hk ⟨by decide, by decide⟩ X (Or.inl rfl) q1628 q2903 q1627 q3494 hy_J7_equals np_J7_equals rfl dX13_deed_85) (fun q h he hX => a_out (unc_of Z.2.1 rfl) Z.2.2.2.1 he hX) (fun x85 h hf => ?kk85)
    refine AW.eq (g2 := F0 m 88 ls [.int x85]) rfl ?_
    refine AW.lift2 (fun _ _ _ _ k1 k2 => lv_if_eq (pc := 88) (tgt := 149) X.2.2.1 X.2.2.2.1 dX13_deed_88 rfl k1 k2) (fun c => ?_) (fun c => ?_)
    · have hf := ite_t c hf
      exact w_X13_deed_j149 GA Z v0 v1 (-1 : Int32)   (hl.sub [2, 3, 0] rfl) hf
    · have hf := ite_f c hf
      refine AW.lift (fun _ _ _ _ k => lv_iconst (pc := 91) (v := (1 : Int32)) X.2.2.1 X.2.2.2.1 dX13_deed_91 rfl k) ?_
      refine a_istore_n (pc := 92) X dX13_deed_92 rfl hl (by decide) (lv' := [(3, vI (1 : Int32)), (2, vR (some a8)), (0, vR v0), (1, vR v1)]) rfl (fun ls hl => ?_)
      refine AW.lift (fun _ _ _ _ k => lv_goto (pc := 93) (tgt := 149) X.2.2.1 X.2.2.2.1 dX13_deed_93 rfl k) ?_
      exact w_X13_deed_j149 GA Z v0 v1 (1 : Int32)   (hl.sub [2, 3, 0] rfl) hf
  have hf := ite_f c2 hf
  by_cases c3 : x8 = (3417674 : Int32)
  · have hf := ite_t c3 hf
    refine AW.lift (fun _ _ _ _ k => lv_lookup (pc := 11) (tgt := 138) (off := 127) X.2.2.1 X.2.2.2.1 dX13_deed_11 (by decide) (by rw [c3]; rfl) rfl k) ?_
    refine a_aload_n (pc := 138) X dX13_deed_138 rfl hl 1 rfl ?_
    refine a_ldcS (pc := 139) X (vk_R.warm X.2.1 (sr_C_42 GA)) dX13_deed_139 ?_
    rcases dv_someS hf with ⟨hk, hf⟩ | ⟨-, hf⟩
    rotate_left
    · exact fl_none hf
    refine a_callb (pc := 141) (rs := []) (avs := [vR (some a8), vR (some (K 19))]) Z.1 (w_J7_equals GA (some a8) (some (K 19))) (Or.inl rfl) q1628 q84 (by decide) (by decide) dX13_deed_141 hl.1 (Nat.le_of_ble_eq_true rfl) hf (ct_V hk ⟨by decide, by decide⟩ X (Or.inl rfl) q1628 q2903 q1627 q3494 hy_J7_equals np_J7_equals rfl dX13_deed_141) (fun q h he hX => a_out (unc_of Z.2.1 rfl) Z.2.2.2.1 he hX) (fun x141 h hf => ?kk141)
    refine AW.eq (g2 := F0 m 144 ls [.int x141]) rfl ?_
    refine AW.lift2 (fun _ _ _ _ k1 k2 => lv_if_eq (pc := 144) (tgt := 149) X.2.2.1 X.2.2.2.1 dX13_deed_144 rfl k1 k2) (fun c => ?_) (fun c => ?_)
    · have hf := ite_t c hf
      exact w_X13_deed_j149 GA Z v0 v1 (-1 : Int32)   (hl.sub [2, 3, 0] rfl) hf
    · have hf := ite_f c hf
      refine AW.lift (fun _ _ _ _ k => lv_iconst (pc := 147) (v := (5 : Int32)) X.2.2.1 X.2.2.2.1 dX13_deed_147 rfl k) ?_
      refine a_istore_n (pc := 148) X dX13_deed_148 rfl hl (by decide) (lv' := [(3, vI (5 : Int32)), (2, vR (some a8)), (0, vR v0), (1, vR v1)]) rfl (fun ls hl => ?_)
      exact w_X13_deed_j149 GA Z v0 v1 (5 : Int32)   (hl.sub [2, 3, 0] rfl) hf
  have hf := ite_f c3 hf
  by_cases c4 : x8 = (3526482 : Int32)
  · have hf := ite_t c4 hf
    refine AW.lift (fun _ _ _ _ k => lv_lookup (pc := 11) (tgt := 96) (off := 85) X.2.2.1 X.2.2.2.1 dX13_deed_11 (by decide) (by rw [c4]; rfl) rfl k) ?_
    refine a_aload_n (pc := 96) X dX13_deed_96 rfl hl 1 rfl ?_
    refine a_ldcS (pc := 97) X (vk_R.warm X.2.1 (sr_C_36 GA)) dX13_deed_97 ?_
    rcases dv_someS hf with ⟨hk, hf⟩ | ⟨-, hf⟩
    rotate_left
    · exact fl_none hf
    refine a_callb (pc := 99) (rs := []) (avs := [vR (some a8), vR (some (K 16))]) Z.1 (w_J7_equals GA (some a8) (some (K 16))) (Or.inl rfl) q1628 q84 (by decide) (by decide) dX13_deed_99 hl.1 (Nat.le_of_ble_eq_true rfl) hf (ct_V hk ⟨by decide, by decide⟩ X (Or.inl rfl) q1628 q2903 q1627 q3494 hy_J7_equals np_J7_equals rfl dX13_deed_99) (fun q h he hX => a_out (unc_of Z.2.1 rfl) Z.2.2.2.1 he hX) (fun x99 h hf => ?kk99)
    refine AW.eq (g2 := F0 m 102 ls [.int x99]) rfl ?_
    refine AW.lift2 (fun _ _ _ _ k1 k2 => lv_if_eq (pc := 102) (tgt := 149) X.2.2.1 X.2.2.2.1 dX13_deed_102 rfl k1 k2) (fun c => ?_) (fun c => ?_)
    · have hf := ite_t c hf
      exact w_X13_deed_j149 GA Z v0 v1 (-1 : Int32)   (hl.sub [2, 3, 0] rfl) hf
    · have hf := ite_f c hf
      refine AW.lift (fun _ _ _ _ k => lv_iconst (pc := 105) (v := (2 : Int32)) X.2.2.1 X.2.2.2.1 dX13_deed_105 rfl k) ?_
      refine a_istore_n (pc := 106) X dX13_deed_106 rfl hl (by decide) (lv' := [(3, vI (2 : Int32)), (2, vR (some a8)), (0, vR v0), (1, vR v1)]) rfl (fun ls hl => ?_)
      refine AW.lift (fun _ _ _ _ k => lv_goto (pc := 107) (tgt := 149) X.2.2.1 X.2.2.2.1 dX13_deed_107 rfl k) ?_
      exact w_X13_deed_j149 GA Z v0 v1 (2 : Int32)   (hl.sub [2, 3, 0] rfl) hf
  have hf := ite_f c4 hf
  by_cases c5 : x8 = (98705061 : Int32)
  · have hf := ite_t c5 hf
    refine AW.lift (fun _ _ _ _ k => lv_lookup (pc := 11) (tgt := 110) (off := 99) X.2.2.1 X.2.2.2.1 dX13_deed_11 (by decide) (by rw [c5]; rfl) rfl k) ?_
    refine a_aload_n (pc := 110) X dX13_deed_110 rfl hl 1 rfl ?_
    refine a_ldcS (pc := 111) X (vk_R.warm X.2.1 (sr_C_38 GA)) dX13_deed_111 ?_
    rcases dv_someS hf with ⟨hk, hf⟩ | ⟨-, hf⟩
    rotate_left
    · exact fl_none hf
    refine a_callb (pc := 113) (rs := []) (avs := [vR (some a8), vR (some (K 17))]) Z.1 (w_J7_equals GA (some a8) (some (K 17))) (Or.inl rfl) q1628 q84 (by decide) (by decide) dX13_deed_113 hl.1 (Nat.le_of_ble_eq_true rfl) hf (ct_V hk ⟨by decide, by decide⟩ X (Or.inl rfl) q1628 q2903 q1627 q3494 hy_J7_equals np_J7_equals rfl dX13_deed_113) (fun q h he hX => a_out (unc_of Z.2.1 rfl) Z.2.2.2.1 he hX) (fun x113 h hf => ?kk113)
    refine AW.eq (g2 := F0 m 116 ls [.int x113]) rfl ?_
    refine AW.lift2 (fun _ _ _ _ k1 k2 => lv_if_eq (pc := 116) (tgt := 149) X.2.2.1 X.2.2.2.1 dX13_deed_116 rfl k1 k2) (fun c => ?_) (fun c => ?_)
    · have hf := ite_t c hf
      exact w_X13_deed_j149 GA Z v0 v1 (-1 : Int32)   (hl.sub [2, 3, 0] rfl) hf
    · have hf := ite_f c hf
      refine AW.lift (fun _ _ _ _ k => lv_iconst (pc := 119) (v := (3 : Int32)) X.2.2.1 X.2.2.2.1 dX13_deed_119 rfl k) ?_
      refine a_istore_n (pc := 120) X dX13_deed_120 rfl hl (by decide) (lv' := [(3, vI (3 : Int32)), (2, vR (some a8)), (0, vR v0), (1, vR v1)]) rfl (fun ls hl => ?_)
      refine AW.lift (fun _ _ _ _ k => lv_goto (pc := 121) (tgt := 149) X.2.2.1 X.2.2.2.1 dX13_deed_121 rfl k) ?_
      exact w_X13_deed_j149 GA Z v0 v1 (3 : Int32)   (hl.sub [2, 3, 0] rfl) hf
  have hf := ite_f c5 hf
  refine AW.lift (fun _ _ _ _ k => lv_lookup (pc := 11) (tgt := 149) (off := 138) X.2.2.1 X.2.2.2.1 dX13_deed_11 (by decide) ((lv_osw c0 rfl).trans ((lv_osw c1 rfl).trans ((lv_osw c2 rfl).trans ((lv_osw c3 rfl).trans ((lv_osw c4 rfl).trans ((lv_osw c5 rfl).trans rfl)))))) rfl k) ?_
  exact w_X13_deed_j149 GA Z v0 v1 (-1 : Int32)   (hl.sub [2, 3, 0] rfl) hf
theorem np_X13_lambda_deed_0 : npar yX13_lambda_deed_0.desc 1 := by unfold npar; decide +kernel
theorem hy_X13_lambda_deed_0 : yX13_lambda_deed_0.cls ≠ "java/lang/invoke/MethodHandle" ∧ yX13_lambda_deed_0.cls ≠ "java/lang/invoke/VarHandle" := by decide +kernel
theorem w_X13_lambda_deed_0 (GA : GA l s0 a0 K lam) (v0 : Option Nat) (v1 : Option Nat) : AMet l s0 K lam yX13_lambda_deed_0 (Cond.code yX13_lambda_deed_0 cX13_lambda_deed_0 (2 : Nat) (Option.some ClassFile.FieldType.int)) 14 3180 [vR v0, vR v1] oI (f_X13_lambda_deed_0 K v0 v1) := by
  refine AMet.of GA.1 (plainFor_of_name (by decide +kernel)) (Nat.le_of_ble_eq_true rfl) ?_
  intro b r hf p e s m args below meth c X hr hlk hnm hnd ht ls hl
  have Z : WZ l s0 a0 K p s m c cX13_lambda_deed_0 yX13_lambda_deed_0.cls 2 b { frames := 14, cells := K 0 - aX b, slots := K 1 - aW b, locals := 3180 } 14 3180 meth [] (some (.int)) yX13_lambda_deed_0 := ⟨⟨X, GA.2.1, GA.2.2.1, rfl, rfl, Nat.le_refl _, Nat.le_refl _⟩, tab_nil ht, hr, hlk, hnm, hnd⟩
  unfold f_X13_lambda_deed_0 at hf
  clear hr hlk hnm hnd ht
  refine a_aload_n (pc := 0) X dX13_lambda_deed_0_0 rfl hl 1 rfl ?_
  refine a_aload_n (pc := 1) X dX13_lambda_deed_0_1 rfl hl 0 rfl ?_
  refine a_get (pc := 2) (φ := 1001) pI_t X Z.1.2.1 (gw X.1 X.2.1 q2873) (fun _ q => q) (by decide) dX13_lambda_deed_0_2 hf (fun x2 hf => ?_)
  refine a_aload_n (pc := 5) X dX13_lambda_deed_0_5 rfl hl 0 rfl ?_
  refine a_get (pc := 6) (φ := 1002) pI_t X Z.1.2.1 (gw X.1 X.2.1 q2874) (fun _ q => q) (by decide) dX13_lambda_deed_0_6 hf (fun x6 hf => ?_)
  obtain ⟨a9, rfl, ⟨hk, hf⟩ | ⟨-, hf⟩⟩ := dv_some hf
  rotate_left
  · exact fl_none hf
  refine a_callb (pc := 9) (rs := []) (avs := [vR (some a9), vI x2, vI x6]) Z.1 (w_X2_up GA (some a9) x2 x6) (Or.inl rfl) q2023 q75 (by decide) (by decide) dX13_lambda_deed_0_9 hl.1 (Nat.le_of_ble_eq_true rfl) hf (ct_V hk ⟨by decide, by decide⟩ X (Or.inl rfl) q2023 q2934 q2021 q2022 hy_X2_up np_X2_up rfl dX13_lambda_deed_0_9) (fun q h he hX => a_out (unc_of Z.2.1 rfl) Z.2.2.2.1 he hX) (fun x9 h hf => ?kk9)
  refine AW.eq (g2 := F0 m 12 ls [.int x9]) rfl ?_
  exact a_ireturn X Z.2.2.1 Z.2.2.2.1 dX13_lambda_deed_0_12 hf
theorem cl_226 {Q : State → Prop} {h : AH} {cc : ByteArray} {own : String} {nL pc : Nat} {ls : Array Slot} {st : List Value} {F Lo idx cnt a : Nat} {v : Option Nat} {rs : List TV} (X : WX l s0 a0 K p s m c cc own nL b R F Lo) (GA : GA l s0 a0 K lam) (hk : aK h a = 226) (hlink : Cond.methodLink own idx ({ cls := "JumpHall$Deed", name := "in", desc := "(LJumpHall$Hall;)I" } : MethodName) ∈ lw_all) (hF : 16 ≤ F) (hLo : 3230 ≤ Lo) (hsz : ls.size = nL) (hW8 : (rs.map tcat).sum ≤ 8) (hst : st = va_rf v :: .ref a :: rs.map tvv) (hdg : decode cc pc = .ok (.invokeinterface idx cnt, 5)) : LC s0 K lam p l e R s m args below meth c Q b h pc ls (rs.map tvv) st (c_lam226 K (some a) v) := by
  intro r1 hf kk kx
  unfold c_lam226 at hf
  obtain ⟨a0, c0, e0, -, hp0, hf⟩ := gL_some hf
  cases e0
  obtain ⟨q0, rfl, hk0, hf⟩ := dv1_some hf
  refine lam_core (caps := [vR (some q0)]) (arg := vR v) (f := f_X13_lambda_deed_0 K (some q0) v) (x := ⟨"JumpHall$Command", "deed", "(LJumpHall$Hall;)LJumpHall$Deed;"⟩) (fs := [15]) (ig := .invokevirtual 22) X (siG_226 GA) hfb_26 (lw_all_tbl q3550) ⟨by decide, by decide⟩ rfl hk (y := yX13_lambda_deed_0) (by decide +kernel) hy_X13_lambda_deed_0 (by decide +kernel) ⟨by decide, by decide⟩ hlink (gf X.1.1 X.1.2.1 q1758 rfl) (gf X.1.1 X.1.2.1 q1757 rfl) (by decide +kernel) (by unfold npar; decide +kernel) (w_X13_lambda_deed_0 GA (some q0) v) (Or.inl rfl) q2933 q136 (fun _ _ => rfl) rfl (fun j v hj => by
    rcases j with _ | j
    · exact (Option.some.inj hj : vR (some q0) = v) ▸ pR_t hp0
    · exact absurd hj (by simp)) ⟨(fun j i hj => by
    rcases j with _ | j
    · obtain rfl : 15 = i := Option.some.inj hj
      exact ⟨by decide +kernel, by decide +kernel⟩
    · exact absurd hj (by simp)), by decide +kernel, by decide +kernel, by decide +kernel⟩ ⟨rfl, by cases v <;> rfl⟩ hF hLo hsz hW8 hst hdg (lam_priv GA.1 q2932 q2931 q2893 rfl hk0 ⟨by decide, by decide⟩ hy_X13_lambda_deed_0 np_X13_lambda_deed_0 (Or.inl rfl) q2933 (by decide +kernel)) r1 hf kk kx
theorem np_X13_lambda_deed_1 : npar yX13_lambda_deed_1.desc 1 := by unfold npar; decide +kernel
theorem hy_X13_lambda_deed_1 : yX13_lambda_deed_1.cls ≠ "java/lang/invoke/MethodHandle" ∧ yX13_lambda_deed_1.cls ≠ "java/lang/invoke/VarHandle" := by decide +kernel
theorem w_X13_lambda_deed_1 (GA : GA l s0 a0 K lam) (v0 : Option Nat) (v1 : Option Nat) : AMet l s0 K lam yX13_lambda_deed_1 (Cond.code yX13_lambda_deed_1 cX13_lambda_deed_1 (2 : Nat) (Option.some ClassFile.FieldType.int)) 10 449 [vR v0, vR v1] oI (f_X13_lambda_deed_1 K v0 v1) := by
  refine AMet.of GA.1 (plainFor_of_name (by decide +kernel)) (Nat.le_of_ble_eq_true rfl) ?_
  intro b r hf p e s m args below meth c X hr hlk hnm hnd ht ls hl
  have Z : WZ l s0 a0 K p s m c cX13_lambda_deed_1 yX13_lambda_deed_1.cls 2 b { frames := 10, cells := K 0 - aX b, slots := K 1 - aW b, locals := 449 } 10 449 meth [] (some (.int)) yX13_lambda_deed_1 := ⟨⟨X, GA.2.1, GA.2.2.1, rfl, rfl, Nat.le_refl _, Nat.le_refl _⟩, tab_nil ht, hr, hlk, hnm, hnd⟩
  unfold f_X13_lambda_deed_1 at hf
  clear hr hlk hnm hnd ht
  refine a_aload_n (pc := 0) X dX13_lambda_deed_1_0 rfl hl 1 rfl ?_
  refine a_aload_n (pc := 1) X dX13_lambda_deed_1_1 rfl hl 0 rfl ?_
  refine a_get (pc := 2) (φ := 1001) pI_t X Z.1.2.1 (gw X.1 X.2.1 q2873) (fun _ q => q) (by decide) dX13_lambda_deed_1_2 hf (fun x2 hf => ?_)
  obtain ⟨a5, rfl, ⟨hk, hf⟩ | ⟨-, hf⟩⟩ := dv_some hf
  rotate_left
  · exact fl_none hf
  refine a_callb (pc := 5) (rs := []) (avs := [vR (some a5), vI x2]) Z.1 (w_X2_down GA (some a5) x2) (Or.inl rfl) q2192 q75 (by decide) (by decide) dX13_lambda_deed_1_5 hl.1 (Nat.le_of_ble_eq_true rfl) hf (ct_V hk ⟨by decide, by decide⟩ X (Or.inl rfl) q2192 q2938 q2190 q2191 hy_X2_down np_X2_down rfl dX13_lambda_deed_1_5) (fun q h he hX => a_out (unc_of Z.2.1 rfl) Z.2.2.2.1 he hX) (fun x5 h hf => ?kk5)
  refine AW.eq (g2 := F0 m 8 ls [.int x5]) rfl ?_
  exact a_ireturn X Z.2.2.1 Z.2.2.2.1 dX13_lambda_deed_1_8 hf
theorem cl_227 {Q : State → Prop} {h : AH} {cc : ByteArray} {own : String} {nL pc : Nat} {ls : Array Slot} {st : List Value} {F Lo idx cnt a : Nat} {v : Option Nat} {rs : List TV} (X : WX l s0 a0 K p s m c cc own nL b R F Lo) (GA : GA l s0 a0 K lam) (hk : aK h a = 227) (hlink : Cond.methodLink own idx ({ cls := "JumpHall$Deed", name := "in", desc := "(LJumpHall$Hall;)I" } : MethodName) ∈ lw_all) (hF : 12 ≤ F) (hLo : 499 ≤ Lo) (hsz : ls.size = nL) (hW8 : (rs.map tcat).sum ≤ 8) (hst : st = va_rf v :: .ref a :: rs.map tvv) (hdg : decode cc pc = .ok (.invokeinterface idx cnt, 5)) : LC s0 K lam p l e R s m args below meth c Q b h pc ls (rs.map tvv) st (c_lam227 K (some a) v) := by
  intro r1 hf kk kx
  unfold c_lam227 at hf
  obtain ⟨a0, c0, e0, -, hp0, hf⟩ := gL_some hf
  cases e0
  obtain ⟨q0, rfl, hk0, hf⟩ := dv1_some hf
  refine lam_core (caps := [vR (some q0)]) (arg := vR v) (f := f_X13_lambda_deed_1 K (some q0) v) (x := ⟨"JumpHall$Command", "deed", "(LJumpHall$Hall;)LJumpHall$Deed;"⟩) (fs := [15]) (ig := .invokevirtual 22) X (siG_227 GA) hfb_27 (lw_all_tbl q3550) ⟨by decide, by decide⟩ rfl hk (y := yX13_lambda_deed_1) (by decide +kernel) hy_X13_lambda_deed_1 (by decide +kernel) ⟨by decide, by decide⟩ hlink (gf X.1.1 X.1.2.1 q1758 rfl) (gf X.1.1 X.1.2.1 q1757 rfl) (by decide +kernel) (by unfold npar; decide +kernel) (w_X13_lambda_deed_1 GA (some q0) v) (Or.inl rfl) q2937 q136 (fun _ _ => rfl) rfl (fun j v hj => by
    rcases j with _ | j
    · exact (Option.some.inj hj : vR (some q0) = v) ▸ pR_t hp0
    · exact absurd hj (by simp)) ⟨(fun j i hj => by
    rcases j with _ | j
    · obtain rfl : 15 = i := Option.some.inj hj
      exact ⟨by decide +kernel, by decide +kernel⟩
    · exact absurd hj (by simp)), by decide +kernel, by decide +kernel, by decide +kernel⟩ ⟨rfl, by cases v <;> rfl⟩ hF hLo hsz hW8 hst hdg (lam_priv GA.1 q2936 q2935 q2893 rfl hk0 ⟨by decide, by decide⟩ hy_X13_lambda_deed_1 np_X13_lambda_deed_1 (Or.inl rfl) q2937 (by decide +kernel)) r1 hf kk kx
theorem np_X13_lambda_deed_2 : npar yX13_lambda_deed_2.desc 1 := by unfold npar; decide +kernel
theorem hy_X13_lambda_deed_2 : yX13_lambda_deed_2.cls ≠ "java/lang/invoke/MethodHandle" ∧ yX13_lambda_deed_2.cls ≠ "java/lang/invoke/VarHandle" := by decide +kernel
theorem w_X13_lambda_deed_2 (GA : GA l s0 a0 K lam) (v0 : Option Nat) (v1 : Option Nat) : AMet l s0 K lam yX13_lambda_deed_2 (Cond.code yX13_lambda_deed_2 cX13_lambda_deed_2 (2 : Nat) (Option.some ClassFile.FieldType.int)) 13 512 [vR v0, vR v1] oI (f_X13_lambda_deed_2 K v0 v1) := by
  refine AMet.of GA.1 (plainFor_of_name (by decide +kernel)) (Nat.le_of_ble_eq_true rfl) ?_
  intro b r hf p e s m args below meth c X hr hlk hnm hnd ht ls hl
  have Z : WZ l s0 a0 K p s m c cX13_lambda_deed_2 yX13_lambda_deed_2.cls 2 b { frames := 13, cells := K 0 - aX b, slots := K 1 - aW b, locals := 512 } 13 512 meth [] (some (.int)) yX13_lambda_deed_2 := ⟨⟨X, GA.2.1, GA.2.2.1, rfl, rfl, Nat.le_refl _, Nat.le_refl _⟩, tab_nil ht, hr, hlk, hnm, hnd⟩
  unfold f_X13_lambda_deed_2 at hf
  clear hr hlk hnm hnd ht
  refine a_aload_n (pc := 0) X dX13_lambda_deed_2_0 rfl hl 1 rfl ?_
  refine a_aload_n (pc := 1) X dX13_lambda_deed_2_1 rfl hl 0 rfl ?_
  refine a_get (pc := 2) (φ := 1001) pI_t X Z.1.2.1 (gw X.1 X.2.1 q2873) (fun _ q => q) (by decide) dX13_lambda_deed_2_2 hf (fun x2 hf => ?_)
  refine a_aload_n (pc := 5) X dX13_lambda_deed_2_5 rfl hl 0 rfl ?_
  refine a_get (pc := 6) (φ := 1002) pI_t X Z.1.2.1 (gw X.1 X.2.1 q2874) (fun _ q => q) (by decide) dX13_lambda_deed_2_6 hf (fun x6 hf => ?_)
  obtain ⟨a9, rfl, ⟨hk, hf⟩ | ⟨-, hf⟩⟩ := dv_some hf
  rotate_left
  · exact fl_none hf
  refine a_callb (pc := 9) (rs := []) (avs := [vR (some a9), vI x2, vI x6]) Z.1 (w_X2_sell GA (some a9) x2 x6) (Or.inl rfl) q2286 q75 (by decide) (by decide) dX13_lambda_deed_2_9 hl.1 (Nat.le_of_ble_eq_true rfl) hf (ct_V hk ⟨by decide, by decide⟩ X (Or.inl rfl) q2286 q2942 q2284 q2285 hy_X2_sell np_X2_sell rfl dX13_lambda_deed_2_9) (fun q h he hX => a_out (unc_of Z.2.1 rfl) Z.2.2.2.1 he hX) (fun x9 h hf => ?kk9)
  refine AW.eq (g2 := F0 m 12 ls [.int x9]) rfl ?_
  exact a_ireturn X Z.2.2.1 Z.2.2.2.1 dX13_lambda_deed_2_12 hf
theorem cl_228 {Q : State → Prop} {h : AH} {cc : ByteArray} {own : String} {nL pc : Nat} {ls : Array Slot} {st : List Value} {F Lo idx cnt a : Nat} {v : Option Nat} {rs : List TV} (X : WX l s0 a0 K p s m c cc own nL b R F Lo) (GA : GA l s0 a0 K lam) (hk : aK h a = 228) (hlink : Cond.methodLink own idx ({ cls := "JumpHall$Deed", name := "in", desc := "(LJumpHall$Hall;)I" } : MethodName) ∈ lw_all) (hF : 15 ≤ F) (hLo : 562 ≤ Lo) (hsz : ls.size = nL) (hW8 : (rs.map tcat).sum ≤ 8) (hst : st = va_rf v :: .ref a :: rs.map tvv) (hdg : decode cc pc = .ok (.invokeinterface idx cnt, 5)) : LC s0 K lam p l e R s m args below meth c Q b h pc ls (rs.map tvv) st (c_lam228 K (some a) v) := by
  intro r1 hf kk kx
  unfold c_lam228 at hf
  obtain ⟨a0, c0, e0, -, hp0, hf⟩ := gL_some hf
  cases e0
  obtain ⟨q0, rfl, hk0, hf⟩ := dv1_some hf
  refine lam_core (caps := [vR (some q0)]) (arg := vR v) (f := f_X13_lambda_deed_2 K (some q0) v) (x := ⟨"JumpHall$Command", "deed", "(LJumpHall$Hall;)LJumpHall$Deed;"⟩) (fs := [15]) (ig := .invokevirtual 22) X (siG_228 GA) hfb_28 (lw_all_tbl q3550) ⟨by decide, by decide⟩ rfl hk (y := yX13_lambda_deed_2) (by decide +kernel) hy_X13_lambda_deed_2 (by decide +kernel) ⟨by decide, by decide⟩ hlink (gf X.1.1 X.1.2.1 q1758 rfl) (gf X.1.1 X.1.2.1 q1757 rfl) (by decide +kernel) (by unfold npar; decide +kernel) (w_X13_lambda_deed_2 GA (some q0) v) (Or.inl rfl) q2941 q136 (fun _ _ => rfl) rfl (fun j v hj => by
    rcases j with _ | j
    · exact (Option.some.inj hj : vR (some q0) = v) ▸ pR_t hp0
    · exact absurd hj (by simp)) ⟨(fun j i hj => by
    rcases j with _ | j
    · obtain rfl : 15 = i := Option.some.inj hj
      exact ⟨by decide +kernel, by decide +kernel⟩
    · exact absurd hj (by simp)), by decide +kernel, by decide +kernel, by decide +kernel⟩ ⟨rfl, by cases v <;> rfl⟩ hF hLo hsz hW8 hst hdg (lam_priv GA.1 q2940 q2939 q2893 rfl hk0 ⟨by decide, by decide⟩ hy_X13_lambda_deed_2 np_X13_lambda_deed_2 (Or.inl rfl) q2941 (by decide +kernel)) r1 hf kk kx
theorem np_X13_lambda_deed_3 : npar yX13_lambda_deed_3.desc 1 := by unfold npar; decide +kernel
theorem hy_X13_lambda_deed_3 : yX13_lambda_deed_3.cls ≠ "java/lang/invoke/MethodHandle" ∧ yX13_lambda_deed_3.cls ≠ "java/lang/invoke/VarHandle" := by decide +kernel
theorem w_X13_lambda_deed_3 (GA : GA l s0 a0 K lam) (v0 : Option Nat) (v1 : Option Nat) : AMet l s0 K lam yX13_lambda_deed_3 (Cond.code yX13_lambda_deed_3 cX13_lambda_deed_3 (2 : Nat) (Option.some ClassFile.FieldType.int)) 6 135 [vR v0, vR v1] oI (f_X13_lambda_deed_3 K v0 v1) := by
  refine AMet.of GA.1 (plainFor_of_name (by decide +kernel)) (Nat.le_of_ble_eq_true rfl) ?_
  intro b r hf p e s m args below meth c X hr hlk hnm hnd ht ls hl
  have Z : WZ l s0 a0 K p s m c cX13_lambda_deed_3 yX13_lambda_deed_3.cls 2 b { frames := 6, cells := K 0 - aX b, slots := K 1 - aW b, locals := 135 } 6 135 meth [] (some (.int)) yX13_lambda_deed_3 := ⟨⟨X, GA.2.1, GA.2.2.1, rfl, rfl, Nat.le_refl _, Nat.le_refl _⟩, tab_nil ht, hr, hlk, hnm, hnd⟩
  unfold f_X13_lambda_deed_3 at hf
  clear hr hlk hnm hnd ht
  refine a_aload_n (pc := 0) X dX13_lambda_deed_3_0 rfl hl 1 rfl ?_
  refine a_aload_n (pc := 1) X dX13_lambda_deed_3_1 rfl hl 0 rfl ?_
  refine a_get (pc := 2) (φ := 1001) pI_t X Z.1.2.1 (gw X.1 X.2.1 q2873) (fun _ q => q) (by decide) dX13_lambda_deed_3_2 hf (fun x2 hf => ?_)
  refine a_aload_n (pc := 5) X dX13_lambda_deed_3_5 rfl hl 0 rfl ?_
  refine a_get (pc := 6) (φ := 1002) pI_t X Z.1.2.1 (gw X.1 X.2.1 q2874) (fun _ q => q) (by decide) dX13_lambda_deed_3_6 hf (fun x6 hf => ?_)
  obtain ⟨a9, rfl, ⟨hk, hf⟩ | ⟨-, hf⟩⟩ := dv_some hf
  rotate_left
  · exact fl_none hf
  refine a_callb (pc := 9) (rs := []) (avs := [vR (some a9), vI x2, vI x6]) Z.1 (w_X2_place GA (some a9) x2 x6) (Or.inl rfl) q2375 q75 (by decide) (by decide) dX13_lambda_deed_3_9 hl.1 (Nat.le_of_ble_eq_true rfl) hf (ct_V hk ⟨by decide, by decide⟩ X (Or.inl rfl) q2375 q2947 q2373 q2374 hy_X2_place np_X2_place rfl dX13_lambda_deed_3_9) (fun q h he hX => a_out (unc_of Z.2.1 rfl) Z.2.2.2.1 he hX) (fun x9 h hf => ?kk9)
  refine AW.eq (g2 := F0 m 12 ls [.int x9]) rfl ?_
  exact a_ireturn X Z.2.2.1 Z.2.2.2.1 dX13_lambda_deed_3_12 hf
theorem cl_229 {Q : State → Prop} {h : AH} {cc : ByteArray} {own : String} {nL pc : Nat} {ls : Array Slot} {st : List Value} {F Lo idx cnt a : Nat} {v : Option Nat} {rs : List TV} (X : WX l s0 a0 K p s m c cc own nL b R F Lo) (GA : GA l s0 a0 K lam) (hk : aK h a = 229) (hlink : Cond.methodLink own idx ({ cls := "JumpHall$Deed", name := "in", desc := "(LJumpHall$Hall;)I" } : MethodName) ∈ lw_all) (hF : 8 ≤ F) (hLo : 185 ≤ Lo) (hsz : ls.size = nL) (hW8 : (rs.map tcat).sum ≤ 8) (hst : st = va_rf v :: .ref a :: rs.map tvv) (hdg : decode cc pc = .ok (.invokeinterface idx cnt, 5)) : LC s0 K lam p l e R s m args below meth c Q b h pc ls (rs.map tvv) st (c_lam229 K (some a) v) := by
  intro r1 hf kk kx
  unfold c_lam229 at hf
  obtain ⟨a0, c0, e0, -, hp0, hf⟩ := gL_some hf
  cases e0
  obtain ⟨q0, rfl, hk0, hf⟩ := dv1_some hf
  refine lam_core (caps := [vR (some q0)]) (arg := vR v) (f := f_X13_lambda_deed_3 K (some q0) v) (x := ⟨"JumpHall$Command", "deed", "(LJumpHall$Hall;)LJumpHall$Deed;"⟩) (fs := [15]) (ig := .invokevirtual 22) X (siG_229 GA) hfb_29 (lw_all_tbl q3550) ⟨by decide, by decide⟩ rfl hk (y := yX13_lambda_deed_3) (by decide +kernel) hy_X13_lambda_deed_3 (by decide +kernel) ⟨by decide, by decide⟩ hlink (gf X.1.1 X.1.2.1 q1758 rfl) (gf X.1.1 X.1.2.1 q1757 rfl) (by decide +kernel) (by unfold npar; decide +kernel) (w_X13_lambda_deed_3 GA (some q0) v) (Or.inl rfl) q2946 q136 (fun _ _ => rfl) rfl (fun j v hj => by
    rcases j with _ | j
    · exact (Option.some.inj hj : vR (some q0) = v) ▸ pR_t hp0
    · exact absurd hj (by simp)) ⟨(fun j i hj => by
    rcases j with _ | j
    · obtain rfl : 15 = i := Option.some.inj hj
      exact ⟨by decide +kernel, by decide +kernel⟩
    · exact absurd hj (by simp)), by decide +kernel, by decide +kernel, by decide +kernel⟩ ⟨rfl, by cases v <;> rfl⟩ hF hLo hsz hW8 hst hdg (lam_priv GA.1 q2945 q2944 q2893 rfl hk0 ⟨by decide, by decide⟩ hy_X13_lambda_deed_3 np_X13_lambda_deed_3 (Or.inl rfl) q2946 (by decide +kernel)) r1 hf kk kx
theorem np_X13_lambda_deed_4 : npar yX13_lambda_deed_4.desc 1 := by unfold npar; decide +kernel
theorem hy_X13_lambda_deed_4 : yX13_lambda_deed_4.cls ≠ "java/lang/invoke/MethodHandle" ∧ yX13_lambda_deed_4.cls ≠ "java/lang/invoke/VarHandle" := by decide +kernel
theorem w_X13_lambda_deed_4 (GA : GA l s0 a0 K lam) (v0 : Option Nat) (v1 : Option Nat) : AMet l s0 K lam yX13_lambda_deed_4 (Cond.code yX13_lambda_deed_4 cX13_lambda_deed_4 (2 : Nat) (Option.some ClassFile.FieldType.int)) 11 3112 [vR v0, vR v1] oI (f_X13_lambda_deed_4 K v0 v1) := by
  refine AMet.of GA.1 (plainFor_of_name (by decide +kernel)) (Nat.le_of_ble_eq_true rfl) ?_
  intro b r hf p e s m args below meth c X hr hlk hnm hnd ht ls hl
  have Z : WZ l s0 a0 K p s m c cX13_lambda_deed_4 yX13_lambda_deed_4.cls 2 b { frames := 11, cells := K 0 - aX b, slots := K 1 - aW b, locals := 3112 } 11 3112 meth [] (some (.int)) yX13_lambda_deed_4 := ⟨⟨X, GA.2.1, GA.2.2.1, rfl, rfl, Nat.le_refl _, Nat.le_refl _⟩, tab_nil ht, hr, hlk, hnm, hnd⟩
  unfold f_X13_lambda_deed_4 at hf
  clear hr hlk hnm hnd ht
  refine a_aload_n (pc := 0) X dX13_lambda_deed_4_0 rfl hl 1 rfl ?_
  refine a_aload_n (pc := 1) X dX13_lambda_deed_4_1 rfl hl 0 rfl ?_
  refine a_get (pc := 2) (φ := 1001) pI_t X Z.1.2.1 (gw X.1 X.2.1 q2873) (fun _ q => q) (by decide) dX13_lambda_deed_4_2 hf (fun x2 hf => ?_)
  refine a_aload_n (pc := 5) X dX13_lambda_deed_4_5 rfl hl 0 rfl ?_
  refine a_get (pc := 6) (φ := 1002) pI_t X Z.1.2.1 (gw X.1 X.2.1 q2874) (fun _ q => q) (by decide) dX13_lambda_deed_4_6 hf (fun x6 hf => ?_)
  obtain ⟨a9, rfl, ⟨hk, hf⟩ | ⟨-, hf⟩⟩ := dv_some hf
  rotate_left
  · exact fl_none hf
  refine a_callb (pc := 9) (rs := []) (avs := [vR (some a9), vI x2, vI x6]) Z.1 (w_X2_fix GA (some a9) x2 x6) (Or.inl rfl) q1827 q75 (by decide) (by decide) dX13_lambda_deed_4_9 hl.1 (Nat.le_of_ble_eq_true rfl) hf (ct_V hk ⟨by decide, by decide⟩ X (Or.inl rfl) q1827 q2951 q1825 q1826 hy_X2_fix np_X2_fix rfl dX13_lambda_deed_4_9) (fun q h he hX => a_out (unc_of Z.2.1 rfl) Z.2.2.2.1 he hX) (fun x9 h hf => ?kk9)
  refine AW.eq (g2 := F0 m 12 ls [.int x9]) rfl ?_
  exact a_ireturn X Z.2.2.1 Z.2.2.2.1 dX13_lambda_deed_4_12 hf
theorem cl_230 {Q : State → Prop} {h : AH} {cc : ByteArray} {own : String} {nL pc : Nat} {ls : Array Slot} {st : List Value} {F Lo idx cnt a : Nat} {v : Option Nat} {rs : List TV} (X : WX l s0 a0 K p s m c cc own nL b R F Lo) (GA : GA l s0 a0 K lam) (hk : aK h a = 230) (hlink : Cond.methodLink own idx ({ cls := "JumpHall$Deed", name := "in", desc := "(LJumpHall$Hall;)I" } : MethodName) ∈ lw_all) (hF : 13 ≤ F) (hLo : 3162 ≤ Lo) (hsz : ls.size = nL) (hW8 : (rs.map tcat).sum ≤ 8) (hst : st = va_rf v :: .ref a :: rs.map tvv) (hdg : decode cc pc = .ok (.invokeinterface idx cnt, 5)) : LC s0 K lam p l e R s m args below meth c Q b h pc ls (rs.map tvv) st (c_lam230 K (some a) v) := by
  intro r1 hf kk kx
  unfold c_lam230 at hf
  obtain ⟨a0, c0, e0, -, hp0, hf⟩ := gL_some hf
  cases e0
  obtain ⟨q0, rfl, hk0, hf⟩ := dv1_some hf
  refine lam_core (caps := [vR (some q0)]) (arg := vR v) (f := f_X13_lambda_deed_4 K (some q0) v) (x := ⟨"JumpHall$Command", "deed", "(LJumpHall$Hall;)LJumpHall$Deed;"⟩) (fs := [15]) (ig := .invokevirtual 22) X (siG_230 GA) hfb_30 (lw_all_tbl q3550) ⟨by decide, by decide⟩ rfl hk (y := yX13_lambda_deed_4) (by decide +kernel) hy_X13_lambda_deed_4 (by decide +kernel) ⟨by decide, by decide⟩ hlink (gf X.1.1 X.1.2.1 q1758 rfl) (gf X.1.1 X.1.2.1 q1757 rfl) (by decide +kernel) (by unfold npar; decide +kernel) (w_X13_lambda_deed_4 GA (some q0) v) (Or.inl rfl) q2950 q136 (fun _ _ => rfl) rfl (fun j v hj => by
    rcases j with _ | j
    · exact (Option.some.inj hj : vR (some q0) = v) ▸ pR_t hp0
    · exact absurd hj (by simp)) ⟨(fun j i hj => by
    rcases j with _ | j
    · obtain rfl : 15 = i := Option.some.inj hj
      exact ⟨by decide +kernel, by decide +kernel⟩
    · exact absurd hj (by simp)), by decide +kernel, by decide +kernel, by decide +kernel⟩ ⟨rfl, by cases v <;> rfl⟩ hF hLo hsz hW8 hst hdg (lam_priv GA.1 q2949 q2948 q2893 rfl hk0 ⟨by decide, by decide⟩ hy_X13_lambda_deed_4 np_X13_lambda_deed_4 (Or.inl rfl) q2950 (by decide +kernel)) r1 hf kk kx
theorem np_X13_lambda_deed_5 : npar yX13_lambda_deed_5.desc 1 := by unfold npar; decide +kernel
theorem hy_X13_lambda_deed_5 : yX13_lambda_deed_5.cls ≠ "java/lang/invoke/MethodHandle" ∧ yX13_lambda_deed_5.cls ≠ "java/lang/invoke/VarHandle" := by decide +kernel
theorem w_X13_lambda_deed_5 (GA : GA l s0 a0 K lam) (v0 : Option Nat) (v1 : Option Nat) : AMet l s0 K lam yX13_lambda_deed_5 (Cond.code yX13_lambda_deed_5 cX13_lambda_deed_5 (2 : Nat) (Option.some ClassFile.FieldType.int)) 10 448 [vR v0, vR v1] oI (f_X13_lambda_deed_5 K v0 v1) := by
  refine AMet.of GA.1 (plainFor_of_name (by decide +kernel)) (Nat.le_of_ble_eq_true rfl) ?_
  intro b r hf p e s m args below meth c X hr hlk hnm hnd ht ls hl
  have Z : WZ l s0 a0 K p s m c cX13_lambda_deed_5 yX13_lambda_deed_5.cls 2 b { frames := 10, cells := K 0 - aX b, slots := K 1 - aW b, locals := 448 } 10 448 meth [] (some (.int)) yX13_lambda_deed_5 := ⟨⟨X, GA.2.1, GA.2.2.1, rfl, rfl, Nat.le_refl _, Nat.le_refl _⟩, tab_nil ht, hr, hlk, hnm, hnd⟩
  unfold f_X13_lambda_deed_5 at hf
  clear hr hlk hnm hnd ht
  refine a_aload_n (pc := 0) X dX13_lambda_deed_5_0 rfl hl 1 rfl ?_
  refine a_aload_n (pc := 1) X dX13_lambda_deed_5_1 rfl hl 0 rfl ?_
  refine a_get (pc := 2) (φ := 1001) pI_t X Z.1.2.1 (gw X.1 X.2.1 q2873) (fun _ q => q) (by decide) dX13_lambda_deed_5_2 hf (fun x2 hf => ?_)
  obtain ⟨a5, rfl, ⟨hk, hf⟩ | ⟨-, hf⟩⟩ := dv_some hf
  rotate_left
  · exact fl_none hf
  refine a_callb (pc := 5) (rs := []) (avs := [vR (some a5), vI x2]) Z.1 (w_X2_open GA (some a5) x2) (Or.inl rfl) q1869 q75 (by decide) (by decide) dX13_lambda_deed_5_5 hl.1 (Nat.le_of_ble_eq_true rfl) hf (ct_V hk ⟨by decide, by decide⟩ X (Or.inl rfl) q1869 q2955 q1867 q1868 hy_X2_open np_X2_open rfl dX13_lambda_deed_5_5) (fun q h he hX => a_out (unc_of Z.2.1 rfl) Z.2.2.2.1 he hX) (fun x5 h hf => ?kk5)
  refine AW.eq (g2 := F0 m 8 ls [.int x5]) rfl ?_
  exact a_ireturn X Z.2.2.1 Z.2.2.2.1 dX13_lambda_deed_5_8 hf
theorem cl_231 {Q : State → Prop} {h : AH} {cc : ByteArray} {own : String} {nL pc : Nat} {ls : Array Slot} {st : List Value} {F Lo idx cnt a : Nat} {v : Option Nat} {rs : List TV} (X : WX l s0 a0 K p s m c cc own nL b R F Lo) (GA : GA l s0 a0 K lam) (hk : aK h a = 231) (hlink : Cond.methodLink own idx ({ cls := "JumpHall$Deed", name := "in", desc := "(LJumpHall$Hall;)I" } : MethodName) ∈ lw_all) (hF : 12 ≤ F) (hLo : 498 ≤ Lo) (hsz : ls.size = nL) (hW8 : (rs.map tcat).sum ≤ 8) (hst : st = va_rf v :: .ref a :: rs.map tvv) (hdg : decode cc pc = .ok (.invokeinterface idx cnt, 5)) : LC s0 K lam p l e R s m args below meth c Q b h pc ls (rs.map tvv) st (c_lam231 K (some a) v) := by
  intro r1 hf kk kx
  unfold c_lam231 at hf
  obtain ⟨a0, c0, e0, -, hp0, hf⟩ := gL_some hf
  cases e0
  obtain ⟨q0, rfl, hk0, hf⟩ := dv1_some hf
  refine lam_core (caps := [vR (some q0)]) (arg := vR v) (f := f_X13_lambda_deed_5 K (some q0) v) (x := ⟨"JumpHall$Command", "deed", "(LJumpHall$Hall;)LJumpHall$Deed;"⟩) (fs := [15]) (ig := .invokevirtual 22) X (siG_231 GA) hfb_31 (lw_all_tbl q3550) ⟨by decide, by decide⟩ rfl hk (y := yX13_lambda_deed_5) (by decide +kernel) hy_X13_lambda_deed_5 (by decide +kernel) ⟨by decide, by decide⟩ hlink (gf X.1.1 X.1.2.1 q1758 rfl) (gf X.1.1 X.1.2.1 q1757 rfl) (by decide +kernel) (by unfold npar; decide +kernel) (w_X13_lambda_deed_5 GA (some q0) v) (Or.inl rfl) q2954 q136 (fun _ _ => rfl) rfl (fun j v hj => by
    rcases j with _ | j
    · exact (Option.some.inj hj : vR (some q0) = v) ▸ pR_t hp0
    · exact absurd hj (by simp)) ⟨(fun j i hj => by
    rcases j with _ | j
    · obtain rfl : 15 = i := Option.some.inj hj
      exact ⟨by decide +kernel, by decide +kernel⟩
    · exact absurd hj (by simp)), by decide +kernel, by decide +kernel, by decide +kernel⟩ ⟨rfl, by cases v <;> rfl⟩ hF hLo hsz hW8 hst hdg (lam_priv GA.1 q2953 q2952 q2893 rfl hk0 ⟨by decide, by decide⟩ hy_X13_lambda_deed_5 np_X13_lambda_deed_5 (Or.inl rfl) q2954 (by decide +kernel)) r1 hf kk kx
theorem np_X13_lambda_deed_6 : npar yX13_lambda_deed_6.desc 1 := by unfold npar; decide +kernel
theorem hy_X13_lambda_deed_6 : yX13_lambda_deed_6.cls ≠ "java/lang/invoke/MethodHandle" ∧ yX13_lambda_deed_6.cls ≠ "java/lang/invoke/VarHandle" := by decide +kernel
theorem w_X13_lambda_deed_6 (GA : GA l s0 a0 K lam) (v0 : Option Nat) (v1 : Option Nat) : AMet l s0 K lam yX13_lambda_deed_6 (Cond.code yX13_lambda_deed_6 cX13_lambda_deed_6 (2 : Nat) (Option.some ClassFile.FieldType.int)) 13 3154 [vR v0, vR v1] oI (f_X13_lambda_deed_6 K v0 v1) := by
  refine AMet.of GA.1 (plainFor_of_name (by decide +kernel)) (Nat.le_of_ble_eq_true rfl) ?_
  intro b r hf p e s m args below meth c X hr hlk hnm hnd ht ls hl
  have Z : WZ l s0 a0 K p s m c cX13_lambda_deed_6 yX13_lambda_deed_6.cls 2 b { frames := 13, cells := K 0 - aX b, slots := K 1 - aW b, locals := 3154 } 13 3154 meth [] (some (.int)) yX13_lambda_deed_6 := ⟨⟨X, GA.2.1, GA.2.2.1, rfl, rfl, Nat.le_refl _, Nat.le_refl _⟩, tab_nil ht, hr, hlk, hnm, hnd⟩
  unfold f_X13_lambda_deed_6 at hf
  clear hr hlk hnm hnd ht
  refine a_aload_n (pc := 0) X dX13_lambda_deed_6_0 rfl hl 1 rfl ?_
  refine a_aload_n (pc := 1) X dX13_lambda_deed_6_1 rfl hl 0 rfl ?_
  refine a_get (pc := 2) (φ := 1001) pI_t X Z.1.2.1 (gw X.1 X.2.1 q2873) (fun _ q => q) (by decide) dX13_lambda_deed_6_2 hf (fun x2 hf => ?_)
  obtain ⟨a5, rfl, ⟨hk, hf⟩ | ⟨-, hf⟩⟩ := dv_some hf
  rotate_left
  · exact fl_none hf
  refine a_callb (pc := 5) (rs := []) (avs := [vR (some a5), vI x2]) Z.1 (w_X2_pass GA (some a5) x2) (Or.inl rfl) q2460 q75 (by decide) (by decide) dX13_lambda_deed_6_5 hl.1 (Nat.le_of_ble_eq_true rfl) hf (ct_V hk ⟨by decide, by decide⟩ X (Or.inl rfl) q2460 q2960 q2458 q2459 hy_X2_pass np_X2_pass rfl dX13_lambda_deed_6_5) (fun q h he hX => a_out (unc_of Z.2.1 rfl) Z.2.2.2.1 he hX) (fun x5 h hf => ?kk5)
  refine AW.eq (g2 := F0 m 8 ls [.int x5]) rfl ?_
  exact a_ireturn X Z.2.2.1 Z.2.2.2.1 dX13_lambda_deed_6_8 hf
theorem cl_232 {Q : State → Prop} {h : AH} {cc : ByteArray} {own : String} {nL pc : Nat} {ls : Array Slot} {st : List Value} {F Lo idx cnt a : Nat} {v : Option Nat} {rs : List TV} (X : WX l s0 a0 K p s m c cc own nL b R F Lo) (GA : GA l s0 a0 K lam) (hk : aK h a = 232) (hlink : Cond.methodLink own idx ({ cls := "JumpHall$Deed", name := "in", desc := "(LJumpHall$Hall;)I" } : MethodName) ∈ lw_all) (hF : 15 ≤ F) (hLo : 3204 ≤ Lo) (hsz : ls.size = nL) (hW8 : (rs.map tcat).sum ≤ 8) (hst : st = va_rf v :: .ref a :: rs.map tvv) (hdg : decode cc pc = .ok (.invokeinterface idx cnt, 5)) : LC s0 K lam p l e R s m args below meth c Q b h pc ls (rs.map tvv) st (c_lam232 K (some a) v) := by
  intro r1 hf kk kx
  unfold c_lam232 at hf
  obtain ⟨a0, c0, e0, -, hp0, hf⟩ := gL_some hf
  cases e0
  obtain ⟨q0, rfl, hk0, hf⟩ := dv1_some hf
  refine lam_core (caps := [vR (some q0)]) (arg := vR v) (f := f_X13_lambda_deed_6 K (some q0) v) (x := ⟨"JumpHall$Command", "deed", "(LJumpHall$Hall;)LJumpHall$Deed;"⟩) (fs := [15]) (ig := .invokevirtual 22) X (siG_232 GA) hfb_32 (lw_all_tbl q3550) ⟨by decide, by decide⟩ rfl hk (y := yX13_lambda_deed_6) (by decide +kernel) hy_X13_lambda_deed_6 (by decide +kernel) ⟨by decide, by decide⟩ hlink (gf X.1.1 X.1.2.1 q1758 rfl) (gf X.1.1 X.1.2.1 q1757 rfl) (by decide +kernel) (by unfold npar; decide +kernel) (w_X13_lambda_deed_6 GA (some q0) v) (Or.inl rfl) q2959 q136 (fun _ _ => rfl) rfl (fun j v hj => by
    rcases j with _ | j
    · exact (Option.some.inj hj : vR (some q0) = v) ▸ pR_t hp0
    · exact absurd hj (by simp)) ⟨(fun j i hj => by
    rcases j with _ | j
    · obtain rfl : 15 = i := Option.some.inj hj
      exact ⟨by decide +kernel, by decide +kernel⟩
    · exact absurd hj (by simp)), by decide +kernel, by decide +kernel, by decide +kernel⟩ ⟨rfl, by cases v <;> rfl⟩ hF hLo hsz hW8 hst hdg (lam_priv GA.1 q2958 q2957 q2893 rfl hk0 ⟨by decide, by decide⟩ hy_X13_lambda_deed_6 np_X13_lambda_deed_6 (Or.inl rfl) q2959 (by decide +kernel)) r1 hf kk kx
theorem w_X13_on_j15 {r : Except Nat (Unit) × AH} (GA : GA l s0 a0 K lam) (Z : WZ l s0 a0 K p s m c cX13_on yX13_on.cls 4 b R 16 3230 meth [(0, 12, 15, 83), (0, 12, 15, 85)] none yX13_on) (v2 : Int32) (t0 : Option Nat)  {h : AH} {ls : Array Slot} (hl : LV ls 4 [(2, vI v2)]) (hf : f_X13_on_j15 K v2 t0 h = some r) : AW s0 K lam p l e R s m args below meth c (AQ s0 K lam below oV b r s) b h (F0 m 15 ls [va_rf t0]) := by
  unfold f_X13_on_j15 at hf
  have X := Z.1.1
  refine a_astore_n (pc := 15) X dX13_on_15 rfl hl (by decide) (lv' := [(3, vR t0), (2, vI v2)]) rfl (fun ls hl => ?_)
  refine a_new (pc := 16) (cK := 12) (n := 8) X Z.1.2.1 Z.1.2.2.1 Z.1.2.2.2.1 Z.1.2.2.2.2.1 ⟨by decide, by decide, by decide⟩ (gw X.1 X.2.1 q2895) (gw X.1 X.2.1 q1725) (gw X.1 X.2.1 q90) dX13_on_16 hf (fun x16 h hf => ?_)
  refine AW.lift (fun _ _ _ _ k => lv_dup (pc := 19) X.2.2.1 X.2.2.2.1 dX13_on_19 (cat_rf _) k) ?_
  refine AW.lift (fun _ _ _ _ k => lv_bipush (pc := 20) (v := (15 : Int32)) X.2.2.1 X.2.2.2.1 dX13_on_20 rfl k) ?_
  refine a_iload_n (pc := 22) X dX13_on_22 rfl hl 1 rfl ?_
  refine a_callb (pc := 23) (rs := [vR (some x16)]) (avs := [vR (some x16), vI (15 : Int32), vI v2]) Z.1 (w_X6_init GA (some x16) (15 : Int32) v2) (Or.inl rfl) q1735 q90 (by decide) (by decide) dX13_on_23 hl.1 (Nat.le_of_ble_eq_true rfl) hf (ct_I X q1735 q2963 q1734 rfl hy_X6_init np_X6_init rfl dX13_on_23) (fun q h he hX => a_out (unc_of Z.2.1 rfl) Z.2.2.2.1 he hX) (fun _ h hf => ?kk23)
  refine AW.eq (g2 := F0 m 26 ls [va_rf (some x16)]) rfl ?_
  refine a_aload_n (pc := 26) X dX13_on_26 rfl hl 0 rfl ?_
  rcases dv_someS hf with ⟨hk, hf⟩ | ⟨-, hf⟩
  rotate_left
  · exact fl_none hf
  refine a_callb (pc := 27) (rs := []) (avs := [vR (some x16), vR t0]) Z.1 (w_X6_behind GA (some x16) t0) (Or.inl rfl) q2047 q90 (by decide) (by decide) dX13_on_27 hl.1 (Nat.le_of_ble_eq_true rfl) hf (ct_V hk ⟨by decide, by decide⟩ X (Or.inl rfl) q2047 q2964 q2045 q2046 hy_X6_behind np_X6_behind rfl dX13_on_27) (fun q h he hX => a_out (unc_of Z.2.1 rfl) Z.2.2.2.1 he hX) (fun x27 h hf => ?kk27)
  refine AW.eq (g2 := F0 m 30 ls [va_rf x27]) rfl ?_
  exact a_athrow X dX13_on_30 hf (fun q e he hX => a_out (unc_of Z.2.1 rfl) Z.2.2.2.1 he hX)
theorem np_X13_on : npar yX13_on.desc 2 := by unfold npar; decide +kernel
theorem hy_X13_on : yX13_on.cls ≠ "java/lang/invoke/MethodHandle" ∧ yX13_on.cls ≠ "java/lang/invoke/VarHandle" := by decide +kernel
theorem w_X13_on (GA : GA l s0 a0 K lam) (v0 : Option Nat) (v1 : Option Nat) (v2 : Int32) : AMet l s0 K lam yX13_on (Cond.codeWith yX13_on cX13_on (4 : Nat) (Option.none : Option ClassFile.FieldType) [((0 : Nat), (12 : Nat), (15 : Nat), (83 : Nat)), ((0 : Nat), (12 : Nat), (15 : Nat), (85 : Nat))]) 16 3230 [vR v0, vR v1, vI v2] oV (f_X13_on K v0 v1 v2) := by
  refine AMet.ofW GA.1 (plainFor_of_name (by decide +kernel)) (Nat.le_of_ble_eq_true rfl) ?_
  intro b r hf p e s m args below meth c X hr hlk hnm hnd ht ls hl
  have Z : WZ l s0 a0 K p s m c cX13_on yX13_on.cls 4 b { frames := 16, cells := K 0 - aX b, slots := K 1 - aW b, locals := 3230 } 16 3230 meth [(0, 12, 15, 83), (0, 12, 15, 85)] none yX13_on := ⟨⟨X, GA.2.1, GA.2.2.1, rfl, rfl, Nat.le_refl _, Nat.le_refl _⟩, ht, hr, hlk, hnm, hnd⟩
  unfold f_X13_on at hf
  clear hr hlk hnm hnd ht
  refine a_aload_n (pc := 0) X dX13_on_0 rfl hl 0 rfl ?_
  refine a_aload_n (pc := 1) X dX13_on_1 rfl hl 1 rfl ?_
  obtain ⟨a2, rfl, ⟨hk, hf⟩ | ⟨-, hf⟩⟩ := dv_tsome hf
  rotate_left
  · exact fl_tnone hf
  refine a_callt (pc := 2) (rs := []) (avs := [vR (some a2), vR v1]) Z.1 (w_X13_deed GA (some a2) v1) (Or.inl rfl) q2900 q136 (by decide) (by decide) dX13_on_2 hl.1 (Nat.le_of_ble_eq_true rfl) hf (ct_V hk ⟨by decide, by decide⟩ X (Or.inl rfl) q2900 q2897 q2899 pv_20 hy_X13_deed np_X13_deed rfl dX13_on_2) (fun q h hf hX => ?hx2) (fun x2 h hf => ?kk2)
  case hx2 =>
    rcases ctc_some hf with ⟨hy, hf⟩ | ⟨hn0, hf⟩
    · refine a_catchH (st := 0) (en := 12) (hp := 15) (ct := 83) (pre := []) (suf := [(0, 12, 15, 85)]) X hX Z.2.1 rfl (fun z hz => nomatch hz) (by decide) (Or.inr ⟨by decide, _, gw X.1 X.2.1 q2895, (cs_X12 GA) _ hy⟩) (AW.eq (g2 := F0 m 15 ls [va_rf (some q)]) rfl ?_)
      exact w_X13_on_j15 GA Z v2 (some q)  (hl.sub [2] rfl) hf
    · skip
      rcases ctc_some hf with ⟨hy, hf⟩ | ⟨hn1, hf⟩
      · refine a_catchH (st := 0) (en := 12) (hp := 15) (ct := 85) (pre := [(0, 12, 15, 83)]) (suf := []) X hX Z.2.1 rfl (by intro z hz; simp only [List.mem_cons, List.not_mem_nil, or_false] at hz; rcases hz with rfl <;> first | exact Or.inl (by decide) | exact Or.inr ⟨by decide, _, gw X.1 X.2.1 q2895, (nc_13_14_16_17_18_19_20_21_JumpHall_Refusal GA _ (by simpa using hn0)).2.2⟩) (by decide) (Or.inr ⟨by decide, _, gw X.1 X.2.1 q2896, (cs_X13 GA) _ hy⟩) (AW.eq (g2 := F0 m 15 ls [va_rf (some q)]) rfl ?_)
        exact w_X13_on_j15 GA Z v2 (some q)  (hl.sub [2] rfl) hf
      · skip
        exact a_outH X Z.2.1 (by intro z hz; simp only [List.mem_cons, List.not_mem_nil, or_false] at hz; rcases hz with rfl | rfl <;> first | exact Or.inl (by decide) | exact Or.inr ⟨by decide, _, gw X.1 X.2.1 q2895, (nc_13_14_16_17_18_19_20_21_JumpHall_Refusal GA _ (by simpa using hn0)).2.2⟩ | exact Or.inr ⟨by decide, _, gw X.1 X.2.1 q2896, (nc_12_14_16_17_18_19_20_21_JumpHall_NotThere GA _ (by simpa using hn1)).2.2⟩) Z.2.2.2.1 (th_eq hf) hX
  refine AW.eq (g2 := F0 m 5 ls [va_rf x2]) rfl ?_
  refine a_aload_n (pc := 5) X dX13_on_5 rfl hl 1 rfl ?_
  obtain ⟨a6, rfl⟩ := dv_tref hf
  refine' a_virtT hf ?kv6 ?kw6 ?cs6
  case cs6 =>
    intro hf kk kx
    rcases dv_tsomeS hf with ⟨hk, hf⟩ | ⟨-, hf⟩
    · refine a_lamt (cl_226 (pc := 6) (rs := []) Z.1 GA hk q2962 (by decide) (by decide) hl.1 (Nat.le_of_ble_eq_true rfl) rfl dX13_on_6) hf (fun q h hf hX => kx _ _ hf hX) (fun v h hf => kk v h hf)
    rcases dv_tsomeS hf with ⟨hk, hf⟩ | ⟨-, hf⟩
    · refine a_lamt (cl_227 (pc := 6) (rs := []) Z.1 GA hk q2962 (by decide) (by decide) hl.1 (Nat.le_of_ble_eq_true rfl) rfl dX13_on_6) hf (fun q h hf hX => kx _ _ hf hX) (fun v h hf => kk v h hf)
    rcases dv_tsomeS hf with ⟨hk, hf⟩ | ⟨-, hf⟩
    · refine a_lamt (cl_228 (pc := 6) (rs := []) Z.1 GA hk q2962 (by decide) (by decide) hl.1 (Nat.le_of_ble_eq_true rfl) rfl dX13_on_6) hf (fun q h hf hX => kx _ _ hf hX) (fun v h hf => kk v h hf)
    rcases dv_tsomeS hf with ⟨hk, hf⟩ | ⟨-, hf⟩
    · refine a_lamt (cl_229 (pc := 6) (rs := []) Z.1 GA hk q2962 (by decide) (by decide) hl.1 (Nat.le_of_ble_eq_true rfl) rfl dX13_on_6) hf (fun q h hf hX => kx _ _ hf hX) (fun v h hf => kk v h hf)
    rcases dv_tsomeS hf with ⟨hk, hf⟩ | ⟨-, hf⟩
    · refine a_lamt (cl_230 (pc := 6) (rs := []) Z.1 GA hk q2962 (by decide) (by decide) hl.1 (Nat.le_of_ble_eq_true rfl) rfl dX13_on_6) hf (fun q h hf hX => kx _ _ hf hX) (fun v h hf => kk v h hf)
    rcases dv_tsomeS hf with ⟨hk, hf⟩ | ⟨-, hf⟩
    · refine a_lamt (cl_231 (pc := 6) (rs := []) Z.1 GA hk q2962 (by decide) (by decide) hl.1 (Nat.le_of_ble_eq_true rfl) rfl dX13_on_6) hf (fun q h hf hX => kx _ _ hf hX) (fun v h hf => kk v h hf)
    rcases dv_tsomeS hf with ⟨hk, hf⟩ | ⟨-, hf⟩
    · refine a_lamt (cl_232 (pc := 6) (rs := []) Z.1 GA hk q2962 (by decide) (by decide) hl.1 (Nat.le_of_ble_eq_true rfl) rfl dX13_on_6) hf (fun q h hf hX => kx _ _ hf hX) (fun v h hf => kk v h hf)
    exact fl_tnone hf
  case kw6 =>
    intro q h hf hX
    rcases ctc_some hf with ⟨hy, hf⟩ | ⟨hn0, hf⟩
    · refine a_catchH (st := 0) (en := 12) (hp := 15) (ct := 83) (pre := []) (suf := [(0, 12, 15, 85)]) X hX Z.2.1 rfl (fun z hz => nomatch hz) (by decide) (Or.inr ⟨by decide, _, gw X.1 X.2.1 q2895, (cs_X12 GA) _ hy⟩) (AW.eq (g2 := F0 m 15 ls [va_rf (some q)]) rfl ?_)
      exact w_X13_on_j15 GA Z v2 (some q)  (hl.sub [2] rfl) hf
    · skip
      rcases ctc_some hf with ⟨hy, hf⟩ | ⟨hn1, hf⟩
      · refine a_catchH (st := 0) (en := 12) (hp := 15) (ct := 85) (pre := [(0, 12, 15, 83)]) (suf := []) X hX Z.2.1 rfl (by intro z hz; simp only [List.mem_cons, List.not_mem_nil, or_false] at hz; rcases hz with rfl <;> first | exact Or.inl (by decide) | exact Or.inr ⟨by decide, _, gw X.1 X.2.1 q2895, (nc_13_14_16_17_18_19_20_21_JumpHall_Refusal GA _ (by simpa using hn0)).2.2⟩) (by decide) (Or.inr ⟨by decide, _, gw X.1 X.2.1 q2896, (cs_X13 GA) _ hy⟩) (AW.eq (g2 := F0 m 15 ls [va_rf (some q)]) rfl ?_)
        exact w_X13_on_j15 GA Z v2 (some q)  (hl.sub [2] rfl) hf
      · skip
        exact a_outH X Z.2.1 (by intro z hz; simp only [List.mem_cons, List.not_mem_nil, or_false] at hz; rcases hz with rfl | rfl <;> first | exact Or.inl (by decide) | exact Or.inr ⟨by decide, _, gw X.1 X.2.1 q2895, (nc_13_14_16_17_18_19_20_21_JumpHall_Refusal GA _ (by simpa using hn0)).2.2⟩ | exact Or.inr ⟨by decide, _, gw X.1 X.2.1 q2896, (nc_12_14_16_17_18_19_20_21_JumpHall_NotThere GA _ (by simpa using hn1)).2.2⟩) Z.2.2.2.1 (th_eq hf) hX
  case kv6 =>
  intro x6 h hf
  refine AW.eq (g2 := F0 m 11 ls [.int x6]) rfl ?_
  refine a_istore_n (pc := 11) X dX13_on_11 rfl hl (by decide) (lv' := [(3, vI x6), (0, vR (some a2)), (1, vR v1), (2, vI v2)]) rfl (fun ls hl => ?_)
  refine AW.lift (fun _ _ _ _ k => lv_goto (pc := 12) (tgt := 31) X.2.2.1 X.2.2.2.1 dX13_on_12 rfl k) ?_
  exact a_return X Z.2.2.1 Z.2.2.2.1 dX13_on_31 hf
theorem w_X11_does_j35 {r : Except Nat (Int32) × AH} (GA : GA l s0 a0 K lam) (Z : WZ l s0 a0 K p s m c cX11_does yX11_does.cls 3 b R 17 3253 meth [] (some (.int)) yX11_does) (v0 : Option Nat)   {h : AH} {ls : Array Slot} (hl : LV ls 3 [(0, vR v0)]) (hf : f_X11_does_j35 K v0 h = some r) : AW s0 K lam p l e R s m args below meth c (AQ s0 K lam below oI b r s) b h (F0 m 35 ls []) := by
  unfold f_X11_does_j35 at hf
  have X := Z.1.1
  refine a_aload_n (pc := 35) X dX11_does_35 rfl hl 0 rfl ?_
  refine a_get (pc := 36) (φ := 902) pR_t X Z.1.2.1 (gw X.1 X.2.1 q2683) (fun _ q => q) (by decide) dX11_does_36 hf (fun x36 hf => ?_)
  obtain ⟨a39, rfl, ⟨hk, hf⟩ | ⟨-, hf⟩⟩ := dv_some hf
  rotate_left
  · exact fl_none hf
  refine a_callb (pc := 39) (rs := []) (avs := [vR (some a39)]) Z.1 (w_J2_size GA (some a39)) (Or.inl rfl) q1012 q78 (by decide) (by decide) dX11_does_39 hl.1 (Nat.le_of_ble_eq_true rfl) hf (ct_V hk ⟨by decide, by decide⟩ X (Or.inl rfl) q1012 q2889 q1011 q3486 hy_J2_size np_J2_size rfl dX11_does_39) (fun q h he hX => a_out (unc_of Z.2.1 rfl) Z.2.2.2.1 he hX) (fun x39 h hf => ?kk39)
  refine AW.eq (g2 := F0 m 42 ls [.int x39]) rfl ?_
  exact a_ireturn X Z.2.2.1 Z.2.2.2.1 dX11_does_42 hf
theorem w_X11_does_b2 {r : Except Nat (Int32) × AH} (GA : GA l s0 a0 K lam) (Z : WZ l s0 a0 K p s m c cX11_does yX11_does.cls 3 b R 17 3253 meth [] (some (.int)) yX11_does) (v0 : Option Nat) (v1 : Option Nat) (v2 : Int32)  (rc2 : Int32 → AM (Int32)) (hrc2 : ∀ (v2 : Int32) (h : AH) (ls : Array Slot), LV ls 3 [(0, vR v0), (1, vR v1), (2, vI v2)] → rc2 v2 h = some r → AW s0 K lam p l e R s m args below meth c (AQ s0 K lam below oI b r s) b h (F0 m 2 ls [])) {h : AH} {ls : Array Slot} (hl : LV ls 3 [(0, vR v0), (1, vR v1), (2, vI v2)]) (hf : f_X11_does_b2 K rc2 v0 v1 v2 h = some r) : AW s0 K lam p l e R s m args below meth c (AQ s0 K lam below oI b r s) b h (F0 m 2 ls []) := by
  unfold f_X11_does_b2 at hf
  have X := Z.1.1
  refine a_iload_n (pc := 2) X dX11_does_2 rfl hl 2 rfl ?_
  refine a_aload_n (pc := 3) X dX11_does_3 rfl hl 0 rfl ?_
  refine a_get (pc := 4) (φ := 902) pR_t X Z.1.2.1 (gw X.1 X.2.1 q2683) (fun _ q => q) (by decide) dX11_does_4 hf (fun x4 hf => ?_)
  obtain ⟨a7, rfl, ⟨hk, hf⟩ | ⟨-, hf⟩⟩ := dv_some hf
  rotate_left
  · exact fl_none hf
  refine a_callb (pc := 7) (rs := [vI v2]) (avs := [vR (some a7)]) Z.1 (w_J2_size GA (some a7)) (Or.inl rfl) q1012 q78 (by decide) (by decide) dX11_does_7 hl.1 (Nat.le_of_ble_eq_true rfl) hf (ct_V hk ⟨by decide, by decide⟩ X (Or.inl rfl) q1012 q2889 q1011 q3486 hy_J2_size np_J2_size rfl dX11_does_7) (fun q h he hX => a_out (unc_of Z.2.1 rfl) Z.2.2.2.1 he hX) (fun x7 h hf => ?kk7)
  refine AW.eq (g2 := F0 m 10 ls [.int x7, .int v2]) rfl ?_
  refine AW.lift2 (fun _ _ _ _ k1 k2 => lv_icmp_ge (pc := 10) (tgt := 35) X.2.2.1 X.2.2.2.1 dX11_does_10 rfl k1 k2) (fun c => ?_) (fun c => ?_)
  · have hf := ite_t c hf
    exact w_X11_does_j35 GA Z v0   (hl.sub [0] rfl) hf
  · have hf := ite_f c hf
    refine a_aload_n (pc := 13) X dX11_does_13 rfl hl 0 rfl ?_
    refine a_get (pc := 14) (φ := 902) pR_t X Z.1.2.1 (gw X.1 X.2.1 q2683) (fun _ q => q) (by decide) dX11_does_14 hf (fun x14 hf => ?_)
    refine a_iload_n (pc := 17) X dX11_does_17 rfl hl 2 rfl ?_
    obtain ⟨a18, rfl, ⟨hk, hf⟩ | ⟨-, hf⟩⟩ := dv_some hf
    rotate_left
    · exact fl_none hf
    refine a_callb (pc := 18) (rs := []) (avs := [vR (some a18), vI v2]) Z.1 (w_J2_get GA (some a18) v2) (Or.inl rfl) q505 q78 (by decide) (by decide) dX11_does_18 hl.1 (Nat.le_of_ble_eq_true rfl) hf (ct_V hk ⟨by decide, by decide⟩ X (Or.inl rfl) q505 q2890 q503 q3487 hy_J2_get np_J2_get rfl dX11_does_18) (fun q h he hX => a_out (unc_of Z.2.1 rfl) Z.2.2.2.1 he hX) (fun x18 h hf => ?kk18)
    refine AW.eq (g2 := F0 m 21 ls [va_rf x18]) rfl ?_
    refine a_checkcast (pc := 21) X (gw X.1 X.2.1 q2866) (cs_JumpHall_Command GA) dX11_does_21 hf (fun hf => ?_)
    refine a_aload_n (pc := 24) X dX11_does_24 rfl hl 1 rfl ?_
    refine a_iload_n (pc := 25) X dX11_does_25 rfl hl 2 rfl ?_
    obtain ⟨a26, rfl, ⟨hk, hf⟩ | ⟨-, hf⟩⟩ := dv_some hf
    rotate_left
    · exact fl_none hf
    refine a_callb (pc := 26) (rs := []) (avs := [vR (some a26), vR v1, vI v2]) Z.1 (w_X13_on GA (some a26) v1 v2) (Or.inr (Or.inl ⟨_, rfl⟩)) q2894 q136 (by decide) (by decide) dX11_does_26 hl.1 (Nat.le_of_ble_eq_true rfl) hf (ct_V hk ⟨by decide, by decide⟩ X (Or.inr (Or.inl ⟨_, rfl⟩)) q2894 q2891 q2892 q2893 hy_X13_on np_X13_on rfl dX11_does_26) (fun q h he hX => a_out (unc_of Z.2.1 rfl) Z.2.2.2.1 he hX) (fun _ h hf => ?kk26)
    refine AW.eq (g2 := F0 m 29 ls []) rfl ?_
    refine a_iinc (pc := 29) (v := (v2 + (1 : Int32))) X dX11_does_29 hl (k := 2) rfl rfl (by decide) (lv' := [(2, vI (v2 + (1 : Int32))), (0, vR v0), (1, vR v1)]) rfl (fun ls hl => ?_)
    refine AW.lift (fun _ _ _ _ k => lv_goto (pc := 32) (tgt := 2) X.2.2.1 X.2.2.2.1 dX11_does_32 rfl k) ?_
    exact hrc2 (v2 + (1 : Int32)) _ _ (hl.sub [1, 2, 0] rfl) hf
theorem w_X11_does_l2 {r : Except Nat (Int32) × AH} (GA : GA l s0 a0 K lam) (Z : WZ l s0 a0 K p s m c cX11_does yX11_does.cls 3 b R 17 3253 meth [] (some (.int)) yX11_does) (v0 : Option Nat) (v1 : Option Nat)  : ∀ (n : Nat) (v2 : Int32) (h : AH) (ls : Array Slot), LV ls 3 [(0, vR v0), (1, vR v1), (2, vI v2)] → f_X11_does_l2 K v0 v1 n v2 h = some r → AW s0 K lam p l e R s m args below meth c (AQ s0 K lam below oI b r s) b h (F0 m 2 ls []) := by
  intro n
  induction n with
  | zero => intro v2 h ls hl hf; exact fl_no (h := h) hf
  | succ n ih => intro v2 h ls hl hf; exact w_X11_does_b2 GA Z v0 v1 v2 (f_X11_does_l2 K v0 v1 n) ih hl hf
theorem np_X11_does : npar yX11_does.desc 1 := by unfold npar; decide +kernel
theorem hy_X11_does : yX11_does.cls ≠ "java/lang/invoke/MethodHandle" ∧ yX11_does.cls ≠ "java/lang/invoke/VarHandle" := by decide +kernel
theorem w_X11_does (GA : GA l s0 a0 K lam) (v0 : Option Nat) (v1 : Option Nat) : AMet l s0 K lam yX11_does (Cond.code yX11_does cX11_does (3 : Nat) (Option.some ClassFile.FieldType.int)) 17 3253 [vR v0, vR v1] oI (f_X11_does K v0 v1) := by
  refine AMet.of GA.1 (plainFor_of_name (by decide +kernel)) (Nat.le_of_ble_eq_true rfl) ?_
  intro b r hf p e s m args below meth c X hr hlk hnm hnd ht ls hl
  have Z : WZ l s0 a0 K p s m c cX11_does yX11_does.cls 3 b { frames := 17, cells := K 0 - aX b, slots := K 1 - aW b, locals := 3253 } 17 3253 meth [] (some (.int)) yX11_does := ⟨⟨X, GA.2.1, GA.2.2.1, rfl, rfl, Nat.le_refl _, Nat.le_refl _⟩, tab_nil ht, hr, hlk, hnm, hnd⟩
  unfold f_X11_does at hf
  clear hr hlk hnm hnd ht
  refine AW.lift (fun _ _ _ _ k => lv_iconst (pc := 0) (v := (0 : Int32)) X.2.2.1 X.2.2.2.1 dX11_does_0 rfl k) ?_
  refine a_istore_n (pc := 1) X dX11_does_1 rfl hl (by decide) (lv' := [(2, vI (0 : Int32)), (0, vR v0), (1, vR v1)]) rfl (fun ls hl => ?_)
  exact w_X11_does_l2 GA Z v0 v1  FU (0 : Int32) _ _ (hl.sub [1, 2, 0] rfl) hf
theorem np_X1_lambda_read_19 : npar yX1_lambda_read_19.desc 2 := by unfold npar; decide +kernel
theorem hy_X1_lambda_read_19 : yX1_lambda_read_19.cls ≠ "java/lang/invoke/MethodHandle" ∧ yX1_lambda_read_19.cls ≠ "java/lang/invoke/VarHandle" := by decide +kernel
theorem w_X1_lambda_read_19 (GA : GA l s0 a0 K lam) (v0 : Option Nat) (v1 : Option Nat) : AMet l s0 K lam yX1_lambda_read_19 (Cond.code yX1_lambda_read_19 cX1_lambda_read_19 (2 : Nat) (Option.some ClassFile.FieldType.int)) 18 3275 [vR v0, vR v1] oI (f_X1_lambda_read_19 K v0 v1) := by
  refine AMet.of GA.1 (plainFor_of_name (by decide +kernel)) (Nat.le_of_ble_eq_true rfl) ?_
  intro b r hf p e s m args below meth c X hr hlk hnm hnd ht ls hl
  have Z : WZ l s0 a0 K p s m c cX1_lambda_read_19 yX1_lambda_read_19.cls 2 b { frames := 18, cells := K 0 - aX b, slots := K 1 - aW b, locals := 3275 } 18 3275 meth [] (some (.int)) yX1_lambda_read_19 := ⟨⟨X, GA.2.1, GA.2.2.1, rfl, rfl, Nat.le_refl _, Nat.le_refl _⟩, tab_nil ht, hr, hlk, hnm, hnd⟩
  unfold f_X1_lambda_read_19 at hf
  clear hr hlk hnm hnd ht
  refine a_aload_n (pc := 0) X dX1_lambda_read_19_0 rfl hl 0 rfl ?_
  refine a_aload_n (pc := 1) X dX1_lambda_read_19_1 rfl hl 1 rfl ?_
  obtain ⟨a2, rfl, ⟨hk, hf⟩ | ⟨-, hf⟩⟩ := dv_some hf
  rotate_left
  · exact fl_none hf
  refine a_callb (pc := 2) (rs := []) (avs := [vR (some a2), vR v1]) Z.1 (w_X11_does GA (some a2) v1) (Or.inl rfl) q2888 q129 (by decide) (by decide) dX1_lambda_read_19_2 hl.1 (Nat.le_of_ble_eq_true rfl) hf (ct_V hk ⟨by decide, by decide⟩ X (Or.inl rfl) q2888 q2885 q2886 q2887 hy_X11_does np_X11_does rfl dX1_lambda_read_19_2) (fun q h he hX => a_out (unc_of Z.2.1 rfl) Z.2.2.2.1 he hX) (fun x2 h hf => ?kk2)
  refine AW.eq (g2 := F0 m 5 ls [.int x2]) rfl ?_
  exact a_ireturn X Z.2.2.1 Z.2.2.2.1 dX1_lambda_read_19_5 hf
theorem cl_225 {Q : State → Prop} {h : AH} {cc : ByteArray} {own : String} {nL pc : Nat} {ls : Array Slot} {st : List Value} {F Lo idx cnt a : Nat} {v : Option Nat} {rs : List TV} (X : WX l s0 a0 K p s m c cc own nL b R F Lo) (GA : GA l s0 a0 K lam) (hk : aK h a = 225) (hlink : Cond.methodLink own idx ({ cls := "JumpHall$Deed", name := "in", desc := "(LJumpHall$Hall;)I" } : MethodName) ∈ lw_all) (hF : 20 ≤ F) (hLo : 3325 ≤ Lo) (hsz : ls.size = nL) (hW8 : (rs.map tcat).sum ≤ 8) (hst : st = va_rf v :: .ref a :: rs.map tvv) (hdg : decode cc pc = .ok (.invokeinterface idx cnt, 5)) : LC s0 K lam p l e R s m args below meth c Q b h pc ls (rs.map tvv) st (c_lam225 K (some a) v) := by
  intro r1 hf kk kx
  unfold c_lam225 at hf
  obtain ⟨a0, c0, e0, -, hp0, hf⟩ := gL_some hf
  cases e0
  refine lam_core (caps := [vR c0]) (arg := vR v) (f := f_X1_lambda_read_19 K c0 v) (x := ⟨"JumpHall", "read", "()I"⟩) (fs := [15]) (ig := .invokestatic 23) X (siG_225 GA) hfb_25 (lw_all_tbl q3550) ⟨by decide, by decide⟩ rfl hk (y := yX1_lambda_read_19) (by decide +kernel) hy_X1_lambda_read_19 (by decide +kernel) ⟨by decide, by decide⟩ hlink (gf X.1.1 X.1.2.1 q1758 rfl) (gf X.1.1 X.1.2.1 q1757 rfl) (by decide +kernel) (by unfold npar; decide +kernel) (w_X1_lambda_read_19 GA c0 v) (Or.inl rfl) q2884 q74 (fun _ _ => rfl) rfl (fun j v hj => by
    rcases j with _ | j
    · exact (Option.some.inj hj : vR c0 = v) ▸ pR_t hp0
    · exact absurd hj (by simp)) ⟨(fun j i hj => by
    rcases j with _ | j
    · obtain rfl : 15 = i := Option.some.inj hj
      exact ⟨by decide +kernel, by decide +kernel⟩
    · exact absurd hj (by simp)), by decide +kernel, by decide +kernel, by decide +kernel⟩ ⟨rfl, by cases v <;> rfl⟩ hF hLo hsz hW8 hst hdg (lam_stat GA.1 q2883 q74 hy_X1_lambda_read_19 np_X1_lambda_read_19 (Or.inl rfl) q2884 (by decide +kernel)) r1 hf kk kx
theorem w_J2_fastRemove_j34 {r : Except Nat (Unit) × AH} (GA : GA l s0 a0 K lam) (Z : WZ l s0 a0 K p s m c cJ2_fastRemove yJ2_fastRemove.cls 4 b R 1 48 meth [] none yJ2_fastRemove) (v0 : Option Nat) (v1 : Option Nat) (v3 : Int32)   {h : AH} {ls : Array Slot} (hl : LV ls 4 [(0, vR v0), (1, vR v1), (3, vI v3)]) (hf : f_J2_fastRemove_j34 K v0 v1 v3 h = some r) : AW s0 K lam p l e R s m args below meth c (AQ s0 K lam below oV b r s) b h (F0 m 34 ls []) := by
  unfold f_J2_fastRemove_j34 at hf
  have X := Z.1.1
  refine a_aload_n (pc := 34) X dJ2_fastRemove_34 rfl hl 1 rfl ?_
  refine a_aload_n (pc := 35) X dJ2_fastRemove_35 rfl hl 0 rfl ?_
  refine a_iload_n (pc := 36) X dJ2_fastRemove_36 rfl hl 2 rfl ?_
  refine AW.lift (fun _ _ _ _ k => lv_dup_x1 (pc := 37) X.2.2.1 X.2.2.2.1 dJ2_fastRemove_37 rfl (cat_rf _) k) ?_
  refine a_put (pc := 38) (φ := 2501) X Z.1.2.1 Z.1.2.2.1 (gw X.1 X.2.1 q169) (fun _ q => q) (by decide) rfl rfl dJ2_fastRemove_38 hf (fun h hf => ?_)
  refine a_null (pc := 41) X dJ2_fastRemove_41 ?_
  refine a_aastore (pc := 42) (t := 1006) (C := "java/lang/Object") (by decide) rfl X (cs_java_lang_Object GA) dJ2_fastRemove_42 hf (fun h hf => ?_)
  exact a_return X Z.2.2.1 Z.2.2.2.1 dJ2_fastRemove_43 hf
theorem np_J2_fastRemove : npar yJ2_fastRemove.desc 2 := by unfold npar; decide +kernel
theorem hy_J2_fastRemove : yJ2_fastRemove.cls ≠ "java/lang/invoke/MethodHandle" ∧ yJ2_fastRemove.cls ≠ "java/lang/invoke/VarHandle" := by decide +kernel
theorem w_J2_fastRemove (GA : GA l s0 a0 K lam) (v0 : Option Nat) (v1 : Option Nat) (v2 : Int32) : AMet l s0 K lam yJ2_fastRemove (Cond.code yJ2_fastRemove cJ2_fastRemove (4 : Nat) (Option.none : Option ClassFile.FieldType)) 1 48 [vR v0, vR v1, vI v2] oV (f_J2_fastRemove K v0 v1 v2) := by
  refine AMet.of GA.1 (plainFor_of_name (by decide +kernel)) (Nat.le_of_ble_eq_true rfl) ?_
  intro b r hf p e s m args below meth c X hr hlk hnm hnd ht ls hl
  have Z : WZ l s0 a0 K p s m c cJ2_fastRemove yJ2_fastRemove.cls 4 b { frames := 1, cells := K 0 - aX b, slots := K 1 - aW b, locals := 48 } 1 48 meth [] none yJ2_fastRemove := ⟨⟨X, GA.2.1, GA.2.2.1, rfl, rfl, Nat.le_refl _, Nat.le_refl _⟩, tab_nil ht, hr, hlk, hnm, hnd⟩
  unfold f_J2_fastRemove at hf
  clear hr hlk hnm hnd ht
  refine a_aload_n (pc := 0) X dJ2_fastRemove_0 rfl hl 0 rfl ?_
  refine AW.lift (fun _ _ _ _ k => lv_dup (pc := 1) X.2.2.1 X.2.2.2.1 dJ2_fastRemove_1 (cat_rf _) k) ?_
  refine a_get (pc := 2) (φ := 2400) pI_t X Z.1.2.1 (gw X.1 X.2.1 q173) (sameF (gw (args := args) X.1 X.2.1 q172)) (by decide) dJ2_fastRemove_2 hf (fun x2 hf => ?_)
  refine AW.lift (fun _ _ _ _ k => lv_iconst (pc := 5) (v := (1 : Int32)) X.2.2.1 X.2.2.2.1 dJ2_fastRemove_5 rfl k) ?_
  refine AW.lift (fun _ _ _ _ k => lv_iadd (pc := 6) X.2.2.1 X.2.2.2.1 dJ2_fastRemove_6 k) ?_
  refine a_put (pc := 7) (φ := 2400) X Z.1.2.1 Z.1.2.2.1 (gw X.1 X.2.1 q173) (sameF (gw (args := args) X.1 X.2.1 q172)) (by decide) rfl rfl dJ2_fastRemove_7 hf (fun h hf => ?_)
  refine a_aload_n (pc := 10) X dJ2_fastRemove_10 rfl hl 0 rfl ?_
  refine a_get (pc := 11) (φ := 2501) pI_t X Z.1.2.1 (gw X.1 X.2.1 q169) (fun _ q => q) (by decide) dJ2_fastRemove_11 hf (fun x11 hf => ?_)
  refine AW.lift (fun _ _ _ _ k => lv_iconst (pc := 14) (v := (1 : Int32)) X.2.2.1 X.2.2.2.1 dJ2_fastRemove_14 rfl k) ?_
  refine AW.lift (fun _ _ _ _ k => lv_isub (pc := 15) X.2.2.1 X.2.2.2.1 dJ2_fastRemove_15 k) ?_
  refine AW.lift (fun _ _ _ _ k => lv_dup (pc := 16) X.2.2.1 X.2.2.2.1 dJ2_fastRemove_16 rfl k) ?_
  refine a_istore_n (pc := 17) X dJ2_fastRemove_17 rfl hl (by decide) (lv' := [(3, vI (x11 - (1 : Int32))), (0, vR v0), (1, vR v1), (2, vI v2)]) rfl (fun ls hl => ?_)
  refine a_iload_n (pc := 18) X dJ2_fastRemove_18 rfl hl 3 rfl ?_
  refine AW.lift2 (fun _ _ _ _ k1 k2 => lv_icmp_le (pc := 19) (tgt := 34) X.2.2.1 X.2.2.2.1 dJ2_fastRemove_19 rfl k1 k2) (fun c => ?_) (fun c => ?_)
  · have hf := ite_t c hf
    exact w_J2_fastRemove_j34 GA Z v0 v1 (x11 - (1 : Int32))   (hl.sub [1, 2, 0] rfl) hf
  · have hf := ite_f c hf
    refine a_aload_n (pc := 22) X dJ2_fastRemove_22 rfl hl 2 rfl ?_
    refine a_iload_n (pc := 23) X dJ2_fastRemove_23 rfl hl 3 rfl ?_
    refine AW.lift (fun _ _ _ _ k => lv_iconst (pc := 24) (v := (1 : Int32)) X.2.2.1 X.2.2.2.1 dJ2_fastRemove_24 rfl k) ?_
    refine AW.lift (fun _ _ _ _ k => lv_iadd (pc := 25) X.2.2.1 X.2.2.2.1 dJ2_fastRemove_25 k) ?_
    refine a_aload_n (pc := 26) X dJ2_fastRemove_26 rfl hl 2 rfl ?_
    refine a_iload_n (pc := 27) X dJ2_fastRemove_27 rfl hl 3 rfl ?_
    refine a_iload_n (pc := 28) X dJ2_fastRemove_28 rfl hl 0 rfl ?_
    refine a_iload_n (pc := 29) X dJ2_fastRemove_29 rfl hl 3 rfl ?_
    refine AW.lift (fun _ _ _ _ k => lv_isub (pc := 30) X.2.2.1 X.2.2.2.1 dJ2_fastRemove_30 k) ?_
    refine a_acpR (pc := 31) (rs := []) Z.1 q1094 q587 q586 q95 (by decide) (by decide) hl.1 (Nat.le_of_ble_eq_true rfl) (cs_java_lang_Object GA) dJ2_fastRemove_31 hf (fun h hf => ?_)
    refine AW.eq (g2 := F0 m 34 ls []) rfl ?_
    exact w_J2_fastRemove_j34 GA Z v0 v1 (x11 - (1 : Int32))   (hl.sub [1, 2, 0] rfl) hf
theorem np_J2_remove : npar yJ2_remove.desc 1 := by unfold npar; decide +kernel
theorem hy_J2_remove : yJ2_remove.cls ≠ "java/lang/invoke/MethodHandle" ∧ yJ2_remove.cls ≠ "java/lang/invoke/VarHandle" := by decide +kernel
theorem w_J2_remove (GA : GA l s0 a0 K lam) (v0 : Option Nat) (v1 : Int32) : AMet l s0 K lam yJ2_remove (Cond.code yJ2_remove cJ2_remove (4 : Nat) (Option.some (ClassFile.FieldType.object "java/lang/Object"))) 2 71 [vR v0, vI v1] oR (f_J2_remove K v0 v1) := by
  refine AMet.of GA.1 (plainFor_of_name (by decide +kernel)) (Nat.le_of_ble_eq_true rfl) ?_
  intro b r hf p e s m args below meth c X hr hlk hnm hnd ht ls hl
  have Z : WZ l s0 a0 K p s m c cJ2_remove yJ2_remove.cls 4 b { frames := 2, cells := K 0 - aX b, slots := K 1 - aW b, locals := 71 } 2 71 meth [] (some (.object "java/lang/Object")) yJ2_remove := ⟨⟨X, GA.2.1, GA.2.2.1, rfl, rfl, Nat.le_refl _, Nat.le_refl _⟩, tab_nil ht, hr, hlk, hnm, hnd⟩
  unfold f_J2_remove at hf
  clear hr hlk hnm hnd ht
  refine a_iload_n (pc := 0) X dJ2_remove_0 rfl hl 1 rfl ?_
  refine a_aload_n (pc := 1) X dJ2_remove_1 rfl hl 0 rfl ?_
  refine a_get (pc := 2) (φ := 2501) pI_t X Z.1.2.1 (gw X.1 X.2.1 q169) (fun _ q => q) (by decide) dJ2_remove_2 hf (fun x2 hf => ?_)
  refine a_callb (pc := 5) (rs := []) (avs := [vI v1, vI x2]) Z.1 (w_J17_checkIndex GA v1 x2) (Or.inl rfl) q508 q99 (by decide) (by decide) dJ2_remove_5 hl.1 (Nat.le_of_ble_eq_true rfl) hf (ct_S X (Or.inl rfl) q508 q99 q506 q507 hy_J17_checkIndex np_J17_checkIndex rfl dJ2_remove_5) (fun q h he hX => a_out (unc_of Z.2.1 rfl) Z.2.2.2.1 he hX) (fun x5 h hf => ?kk5)
  refine AW.eq (g2 := F0 m 8 ls [.int x5]) rfl ?_
  refine AW.lift (fun _ _ _ _ k => lv_pop (pc := 8) X.2.2.1 X.2.2.2.1 dJ2_remove_8 rfl k) ?_
  refine a_aload_n (pc := 9) X dJ2_remove_9 rfl hl 0 rfl ?_
  refine a_get (pc := 10) (φ := 2500) pR_t X Z.1.2.1 (gw X.1 X.2.1 q166) (fun _ q => q) (by decide) dJ2_remove_10 hf (fun x10 hf => ?_)
  refine a_astore_n (pc := 13) X dJ2_remove_13 rfl hl (by decide) (lv' := [(2, vR x10), (0, vR v0), (1, vI v1)]) rfl (fun ls hl => ?_)
  refine a_aload_n (pc := 14) X dJ2_remove_14 rfl hl 0 rfl ?_
  refine a_iload_n (pc := 15) X dJ2_remove_15 rfl hl 2 rfl ?_
  refine a_aaload (pc := 16) (t := 1006) (by decide) rfl X dJ2_remove_16 hf (fun x16 hf => ?_)
  refine a_astore_n (pc := 17) X dJ2_remove_17 rfl hl (by decide) (lv' := [(3, vR x16), (2, vR x10), (0, vR v0), (1, vI v1)]) rfl (fun ls hl => ?_)
  refine a_aload_n (pc := 18) X dJ2_remove_18 rfl hl 2 rfl ?_
  refine a_aload_n (pc := 19) X dJ2_remove_19 rfl hl 1 rfl ?_
  refine a_iload_n (pc := 20) X dJ2_remove_20 rfl hl 3 rfl ?_
  obtain ⟨a21, rfl, ⟨hk, hf⟩ | ⟨-, hf⟩⟩ := dv_some hf
  rotate_left
  · exact fl_none hf
  refine a_callb (pc := 21) (rs := []) (avs := [vR (some a21), vR x10, vI v1]) Z.1 (w_J2_fastRemove GA (some a21) x10 v1) (Or.inl rfl) q1766 q78 (by decide) (by decide) dJ2_remove_21 hl.1 (Nat.le_of_ble_eq_true rfl) hf (ct_V hk ⟨by decide, by decide⟩ X (Or.inl rfl) q1766 q1763 q1765 pv_5 hy_J2_fastRemove np_J2_fastRemove rfl dJ2_remove_21) (fun q h he hX => a_out (unc_of Z.2.1 rfl) Z.2.2.2.1 he hX) (fun _ h hf => ?kk21)
  refine AW.eq (g2 := F0 m 24 ls []) rfl ?_
  refine a_aload_n (pc := 24) X dJ2_remove_24 rfl hl 0 rfl ?_
  exact a_areturn X Z.2.2.1 (Or.inl ⟨_, rfl⟩) Z.2.2.2.1 dJ2_remove_25 hf
theorem np_J36_init : npar yJ36_init.desc 0 := by unfold npar; decide +kernel
theorem hy_J36_init : yJ36_init.cls ≠ "java/lang/invoke/MethodHandle" ∧ yJ36_init.cls ≠ "java/lang/invoke/VarHandle" := by decide +kernel
theorem w_J36_init (GA : GA l s0 a0 K lam) (v0 : Option Nat) : AMet l s0 K lam yJ36_init (Cond.code yJ36_init cJ36_init (1 : Nat) (Option.none : Option ClassFile.FieldType)) 7 380 [vR v0] oV (f_J36_init K v0) := by
  refine AMet.of GA.1 (plainFor_of_name (by decide +kernel)) (Nat.le_of_ble_eq_true rfl) ?_
  intro b r hf p e s m args below meth c X hr hlk hnm hnd ht ls hl
  have Z : WZ l s0 a0 K p s m c cJ36_init yJ36_init.cls 1 b { frames := 7, cells := K 0 - aX b, slots := K 1 - aW b, locals := 380 } 7 380 meth [] none yJ36_init := ⟨⟨X, GA.2.1, GA.2.2.1, rfl, rfl, Nat.le_refl _, Nat.le_refl _⟩, tab_nil ht, hr, hlk, hnm, hnd⟩
  unfold f_J36_init at hf
  clear hr hlk hnm hnd ht
  refine a_aload_n (pc := 0) X dJ36_init_0 rfl hl 0 rfl ?_
  obtain ⟨a1, rfl, hf⟩ := nz_some hf
  refine a_callb (pc := 1) (rs := []) (avs := [vR (some a1)]) Z.1 (w_J15_init GA (some a1)) (Or.inl rfl) q456 q97 (by decide) (by decide) dJ36_init_1 hl.1 (Nat.le_of_ble_eq_true rfl) hf (ct_I X q456 q1780 q455 rfl hy_J15_init np_J15_init rfl dJ36_init_1) (fun q h he hX => a_out (unc_of Z.2.1 rfl) Z.2.2.2.1 he hX) (fun _ h hf => ?kk1)
  refine AW.eq (g2 := F0 m 4 ls []) rfl ?_
  exact a_return X Z.2.2.1 Z.2.2.2.1 dJ36_init_4 hf
end WK
