section WK
variable {l : Launch} {s0 : State} {a0 : Array Value} {K : Nat → Nat} {lam : Nat → ClassId}
variable {p : Program} {e : Env} {R : Room} {s : State} {m : MethodId} {args : Array Value} {below : List Frame} {meth : Method} {c : Code} {b : AH}
theorem np_J0_init : npar yJ0_init.desc 0 := by unfold npar; decide +kernel
theorem hy_J0_init : yJ0_init.cls ≠ "java/lang/invoke/MethodHandle" ∧ yJ0_init.cls ≠ "java/lang/invoke/VarHandle" := by decide +kernel
theorem w_J0_init (GA : GA l s0 a0 K lam) (v0 : Option Nat) : AMet l s0 K lam yJ0_init (Cond.code yJ0_init cJ0_init (1 : Nat) (Option.none : Option ClassFile.FieldType)) 1 20 [vR v0] oV (f_J0_init K v0) := by
  refine AMet.of GA.1 (plainFor_of_name (by decide +kernel)) (Nat.le_of_ble_eq_true rfl) ?_
  intro b r hf p e s m args below meth c X hr hlk hnm hnd ht ls hl
  have Z : WZ l s0 a0 K p s m c cJ0_init yJ0_init.cls 1 b { frames := 1, cells := K 0 - aX b, slots := K 1 - aW b, locals := 20 } 1 20 meth [] none yJ0_init := ⟨⟨X, GA.2.1, GA.2.2.1, rfl, rfl, Nat.le_refl _, Nat.le_refl _⟩, tab_nil ht, hr, hlk, hnm, hnd⟩
  unfold f_J0_init at hf
  clear hr hlk hnm hnd ht
  refine a_aload_n (pc := 0) X dJ0_init_0 rfl hl 0 rfl ?_
  obtain ⟨a1, rfl, hf⟩ := nz_some hf
  refine a_objInit (pc := 1) (rs := []) Z.1 q163 q144 q145 (by decide) (by decide) hl.1 (Nat.le_of_ble_eq_true rfl) dJ0_init_1 ?_
  refine AW.eq (g2 := F0 m 4 ls []) rfl ?_
  exact a_return X Z.2.2.1 Z.2.2.2.1 dJ0_init_4 hf
theorem np_J1_init : npar yJ1_init.desc 0 := by unfold npar; decide +kernel
theorem hy_J1_init : yJ1_init.cls ≠ "java/lang/invoke/MethodHandle" ∧ yJ1_init.cls ≠ "java/lang/invoke/VarHandle" := by decide +kernel
theorem w_J1_init (GA : GA l s0 a0 K lam) (v0 : Option Nat) : AMet l s0 K lam yJ1_init (Cond.code yJ1_init cJ1_init (1 : Nat) (Option.none : Option ClassFile.FieldType)) 2 40 [vR v0] oV (f_J1_init K v0) := by
  refine AMet.of GA.1 (plainFor_of_name (by decide +kernel)) (Nat.le_of_ble_eq_true rfl) ?_
  intro b r hf p e s m args below meth c X hr hlk hnm hnd ht ls hl
  have Z : WZ l s0 a0 K p s m c cJ1_init yJ1_init.cls 1 b { frames := 2, cells := K 0 - aX b, slots := K 1 - aW b, locals := 40 } 2 40 meth [] none yJ1_init := ⟨⟨X, GA.2.1, GA.2.2.1, rfl, rfl, Nat.le_refl _, Nat.le_refl _⟩, tab_nil ht, hr, hlk, hnm, hnd⟩
  unfold f_J1_init at hf
  clear hr hlk hnm hnd ht
  refine a_aload_n (pc := 0) X dJ1_init_0 rfl hl 0 rfl ?_
  obtain ⟨a1, rfl, hf⟩ := nz_some hf
  refine a_callb (pc := 1) (rs := []) (avs := [vR (some a1)]) Z.1 (w_J0_init GA (some a1)) (Or.inl rfl) q162 q76 (by decide) (by decide) dJ1_init_1 hl.1 (Nat.le_of_ble_eq_true rfl) hf (ct_I X q162 q160 q161 rfl hy_J0_init np_J0_init rfl dJ1_init_1) (fun q h he hX => a_out (unc_of Z.2.1 rfl) Z.2.2.2.1 he hX) (fun _ h hf => ?kk1)
  refine AW.eq (g2 := F0 m 4 ls []) rfl ?_
  refine a_aload_n (pc := 4) X dJ1_init_4 rfl hl 0 rfl ?_
  refine AW.lift (fun _ _ _ _ k => lv_iconst (pc := 5) (v := (0 : Int32)) X.2.2.1 X.2.2.2.1 dJ1_init_5 rfl k) ?_
  refine a_put (pc := 6) (φ := 2400) X Z.1.2.1 Z.1.2.2.1 (gw X.1 X.2.1 q170) (fun _ q => q) (by decide) rfl rfl dJ1_init_6 hf (fun h hf => ?_)
  exact a_return X Z.2.2.1 Z.2.2.2.1 dJ1_init_9 hf
theorem np_J2_init : npar yJ2_init.desc 0 := by unfold npar; decide +kernel
theorem hy_J2_init : yJ2_init.cls ≠ "java/lang/invoke/MethodHandle" ∧ yJ2_init.cls ≠ "java/lang/invoke/VarHandle" := by decide +kernel
theorem w_J2_init (GA : GA l s0 a0 K lam) (v0 : Option Nat) : AMet l s0 K lam yJ2_init (Cond.code yJ2_init cJ2_init (1 : Nat) (Option.none : Option ClassFile.FieldType)) 3 60 [vR v0] oV (f_J2_init K v0) := by
  refine AMet.of GA.1 (plainFor_of_name (by decide +kernel)) (Nat.le_of_ble_eq_true rfl) ?_
  intro b r hf p e s m args below meth c X hr hlk hnm hnd ht ls hl
  have Z : WZ l s0 a0 K p s m c cJ2_init yJ2_init.cls 1 b { frames := 3, cells := K 0 - aX b, slots := K 1 - aW b, locals := 60 } 3 60 meth [] none yJ2_init := ⟨⟨X, GA.2.1, GA.2.2.1, rfl, rfl, Nat.le_refl _, Nat.le_refl _⟩, tab_nil ht, hr, hlk, hnm, hnd⟩
  unfold f_J2_init at hf
  clear hr hlk hnm hnd ht
  refine a_aload_n (pc := 0) X dJ2_init_0 rfl hl 0 rfl ?_
  obtain ⟨a1, rfl, hf⟩ := nz_some hf
  refine a_callb (pc := 1) (rs := []) (avs := [vR (some a1)]) Z.1 (w_J1_init GA (some a1)) (Or.inl rfl) q159 q77 (by decide) (by decide) dJ2_init_1 hl.1 (Nat.le_of_ble_eq_true rfl) hf (ct_I X q159 q157 q158 rfl hy_J1_init np_J1_init rfl dJ2_init_1) (fun q h he hX => a_out (unc_of Z.2.1 rfl) Z.2.2.2.1 he hX) (fun _ h hf => ?kk1)
  refine AW.eq (g2 := F0 m 4 ls []) rfl ?_
  refine a_aload_n (pc := 4) X dJ2_init_4 rfl hl 0 rfl ?_
  refine a_getstatic (pc := 5) (v := va_rf (some (K 3))) X (st_DEFAULTCAPACITY_EMPTY_ELEMENTDATA GA) (gw X.1 X.2.1 q164) (fun _ q => q) dJ2_init_5 ?_
  refine a_put (pc := 8) (φ := 2500) X Z.1.2.1 Z.1.2.2.1 (gw X.1 X.2.1 q166) (fun _ q => q) (by decide) rfl (fits_rf _ (Or.inr ⟨_, rfl⟩)) dJ2_init_8 hf (fun h hf => ?_)
  exact a_return X Z.2.2.1 Z.2.2.2.1 dJ2_init_11 hf
theorem np_J3_init : npar yJ3_init.desc 0 := by unfold npar; decide +kernel
theorem hy_J3_init : yJ3_init.cls ≠ "java/lang/invoke/MethodHandle" ∧ yJ3_init.cls ≠ "java/lang/invoke/VarHandle" := by decide +kernel
theorem w_J3_init (GA : GA l s0 a0 K lam) (v0 : Option Nat) : AMet l s0 K lam yJ3_init (Cond.code yJ3_init cJ3_init (1 : Nat) (Option.none : Option ClassFile.FieldType)) 1 20 [vR v0] oV (f_J3_init K v0) := by
  refine AMet.of GA.1 (plainFor_of_name (by decide +kernel)) (Nat.le_of_ble_eq_true rfl) ?_
  intro b r hf p e s m args below meth c X hr hlk hnm hnd ht ls hl
  have Z : WZ l s0 a0 K p s m c cJ3_init yJ3_init.cls 1 b { frames := 1, cells := K 0 - aX b, slots := K 1 - aW b, locals := 20 } 1 20 meth [] none yJ3_init := ⟨⟨X, GA.2.1, GA.2.2.1, rfl, rfl, Nat.le_refl _, Nat.le_refl _⟩, tab_nil ht, hr, hlk, hnm, hnd⟩
  unfold f_J3_init at hf
  clear hr hlk hnm hnd ht
  refine a_aload_n (pc := 0) X dJ3_init_0 rfl hl 0 rfl ?_
  obtain ⟨a1, rfl, hf⟩ := nz_some hf
  refine a_objInit (pc := 1) (rs := []) Z.1 q195 q144 q145 (by decide) (by decide) hl.1 (Nat.le_of_ble_eq_true rfl) dJ3_init_1 ?_
  refine AW.eq (g2 := F0 m 4 ls []) rfl ?_
  exact a_return X Z.2.2.1 Z.2.2.2.1 dJ3_init_4 hf
theorem np_J4_init : npar yJ4_init.desc 0 := by unfold npar; decide +kernel
theorem hy_J4_init : yJ4_init.cls ≠ "java/lang/invoke/MethodHandle" ∧ yJ4_init.cls ≠ "java/lang/invoke/VarHandle" := by decide +kernel
theorem w_J4_init (GA : GA l s0 a0 K lam) (v0 : Option Nat) : AMet l s0 K lam yJ4_init (Cond.code yJ4_init cJ4_init (1 : Nat) (Option.none : Option ClassFile.FieldType)) 2 40 [vR v0] oV (f_J4_init K v0) := by
  refine AMet.of GA.1 (plainFor_of_name (by decide +kernel)) (Nat.le_of_ble_eq_true rfl) ?_
  intro b r hf p e s m args below meth c X hr hlk hnm hnd ht ls hl
  have Z : WZ l s0 a0 K p s m c cJ4_init yJ4_init.cls 1 b { frames := 2, cells := K 0 - aX b, slots := K 1 - aW b, locals := 40 } 2 40 meth [] none yJ4_init := ⟨⟨X, GA.2.1, GA.2.2.1, rfl, rfl, Nat.le_refl _, Nat.le_refl _⟩, tab_nil ht, hr, hlk, hnm, hnd⟩
  unfold f_J4_init at hf
  clear hr hlk hnm hnd ht
  refine a_aload_n (pc := 0) X dJ4_init_0 rfl hl 0 rfl ?_
  obtain ⟨a1, rfl, hf⟩ := nz_some hf
  refine a_callb (pc := 1) (rs := []) (avs := [vR (some a1)]) Z.1 (w_J3_init GA (some a1)) (Or.inl rfl) q194 q80 (by decide) (by decide) dJ4_init_1 hl.1 (Nat.le_of_ble_eq_true rfl) hf (ct_I X q194 q192 q193 rfl hy_J3_init np_J3_init rfl dJ4_init_1) (fun q h he hX => a_out (unc_of Z.2.1 rfl) Z.2.2.2.1 he hX) (fun _ h hf => ?kk1)
  refine AW.eq (g2 := F0 m 4 ls []) rfl ?_
  refine a_aload_n (pc := 4) X dJ4_init_4 rfl hl 0 rfl ?_
  refine AW.lift (fun _ _ _ _ k => lv_ldcf (pc := 5) X.2.2.1 X.2.2.2.1 X.2.2.2.2.1 (gw X.1 X.2.1 q196) dJ4_init_5 k) ?_
  refine a_putF (pc := 7) (φ := 2805) X Z.1.2.1 Z.1.2.2.1 (gw X.1 X.2.1 q206) (fun _ q => q) (by decide) rfl Z.2.2.2.2.1 rfl rfl dJ4_init_7 hf (fun h hf => ?_)
  exact a_return X Z.2.2.1 Z.2.2.2.1 dJ4_init_10 hf
theorem np_X3_init : npar yX3_init.desc 0 := by unfold npar; decide +kernel
theorem hy_X3_init : yX3_init.cls ≠ "java/lang/invoke/MethodHandle" ∧ yX3_init.cls ≠ "java/lang/invoke/VarHandle" := by decide +kernel
theorem w_X3_init (GA : GA l s0 a0 K lam) (v0 : Option Nat) : AMet l s0 K lam yX3_init (Cond.code yX3_init cX3_init (1 : Nat) (Option.none : Option ClassFile.FieldType)) 3 60 [vR v0] oV (f_X3_init K v0) := by
  refine AMet.of GA.1 (plainFor_of_name (by decide +kernel)) (Nat.le_of_ble_eq_true rfl) ?_
  intro b r hf p e s m args below meth c X hr hlk hnm hnd ht ls hl
  have Z : WZ l s0 a0 K p s m c cX3_init yX3_init.cls 1 b { frames := 3, cells := K 0 - aX b, slots := K 1 - aW b, locals := 60 } 3 60 meth [] none yX3_init := ⟨⟨X, GA.2.1, GA.2.2.1, rfl, rfl, Nat.le_refl _, Nat.le_refl _⟩, tab_nil ht, hr, hlk, hnm, hnd⟩
  unfold f_X3_init at hf
  clear hr hlk hnm hnd ht
  refine a_aload_n (pc := 0) X dX3_init_0 rfl hl 0 rfl ?_
  obtain ⟨a1, rfl, hf⟩ := nz_some hf
  refine a_objInit (pc := 1) (rs := []) Z.1 q186 q144 q145 (by decide) (by decide) hl.1 (Nat.le_of_ble_eq_true rfl) dX3_init_1 ?_
  refine AW.eq (g2 := F0 m 4 ls []) rfl ?_
  refine a_aload_n (pc := 4) X dX3_init_4 rfl hl 0 rfl ?_
  refine a_new (pc := 5) (cK := 28) (n := 8) X Z.1.2.1 Z.1.2.2.1 Z.1.2.2.2.1 Z.1.2.2.2.2.1 ⟨by decide, by decide, by decide⟩ (gw X.1 X.2.1 q187) (gw X.1 X.2.1 q188) (gw X.1 X.2.1 q81) dX3_init_5 hf (fun x5 h hf => ?_)
  refine AW.lift (fun _ _ _ _ k => lv_dup (pc := 8) X.2.2.1 X.2.2.2.1 dX3_init_8 (cat_rf _) k) ?_
  refine a_callb (pc := 9) (rs := [vR (some x5), vR (some a1)]) (avs := [vR (some x5)]) Z.1 (w_J4_init GA (some x5)) (Or.inl rfl) q191 q81 (by decide) (by decide) dX3_init_9 hl.1 (Nat.le_of_ble_eq_true rfl) hf (ct_I X q191 q189 q190 rfl hy_J4_init np_J4_init rfl dX3_init_9) (fun q h he hX => a_out (unc_of Z.2.1 rfl) Z.2.2.2.1 he hX) (fun _ h hf => ?kk9)
  refine AW.eq (g2 := F0 m 12 ls [va_rf (some x5), va_rf (some a1)]) rfl ?_
  refine a_putF (pc := 12) (φ := 700) X Z.1.2.1 Z.1.2.2.1 (gw X.1 X.2.1 q224) (fun _ q => q) (by decide) rfl Z.2.2.2.2.1 rfl (fits_rf _ (Or.inl ⟨_, rfl⟩)) dX3_init_12 hf (fun h hf => ?_)
  exact a_return X Z.2.2.1 Z.2.2.2.1 dX3_init_15 hf
theorem np_X2_init : npar yX2_init.desc 0 := by unfold npar; decide +kernel
theorem hy_X2_init : yX2_init.cls ≠ "java/lang/invoke/MethodHandle" ∧ yX2_init.cls ≠ "java/lang/invoke/VarHandle" := by decide +kernel
theorem w_X2_init (GA : GA l s0 a0 K lam) (v0 : Option Nat) : AMet l s0 K lam yX2_init (Cond.code yX2_init cX2_init (1 : Nat) (Option.none : Option ClassFile.FieldType)) 4 80 [vR v0] oV (f_X2_init K v0) := by
  refine AMet.of GA.1 (plainFor_of_name (by decide +kernel)) (Nat.le_of_ble_eq_true rfl) ?_
  intro b r hf p e s m args below meth c X hr hlk hnm hnd ht ls hl
  have Z : WZ l s0 a0 K p s m c cX2_init yX2_init.cls 1 b { frames := 4, cells := K 0 - aX b, slots := K 1 - aW b, locals := 80 } 4 80 meth [] none yX2_init := ⟨⟨X, GA.2.1, GA.2.2.1, rfl, rfl, Nat.le_refl _, Nat.le_refl _⟩, tab_nil ht, hr, hlk, hnm, hnd⟩
  unfold f_X2_init at hf
  clear hr hlk hnm hnd ht
  refine a_aload_n (pc := 0) X dX2_init_0 rfl hl 0 rfl ?_
  obtain ⟨a1, rfl, hf⟩ := nz_some hf
  refine a_objInit (pc := 1) (rs := []) Z.1 q151 q144 q145 (by decide) (by decide) hl.1 (Nat.le_of_ble_eq_true rfl) dX2_init_1 ?_
  refine AW.eq (g2 := F0 m 4 ls []) rfl ?_
  refine a_aload_n (pc := 4) X dX2_init_4 rfl hl 0 rfl ?_
  refine a_new (pc := 5) (cK := 25) (n := 3) X Z.1.2.1 Z.1.2.2.1 Z.1.2.2.2.1 Z.1.2.2.2.2.1 ⟨by decide, by decide, by decide⟩ (gw X.1 X.2.1 q152) (gw X.1 X.2.1 q153) (gw X.1 X.2.1 q78) dX2_init_5 hf (fun x5 h hf => ?_)
  refine AW.lift (fun _ _ _ _ k => lv_dup (pc := 8) X.2.2.1 X.2.2.2.1 dX2_init_8 (cat_rf _) k) ?_
  refine a_callb (pc := 9) (rs := [vR (some x5), vR (some a1)]) (avs := [vR (some x5)]) Z.1 (w_J2_init GA (some x5)) (Or.inl rfl) q156 q78 (by decide) (by decide) dX2_init_9 hl.1 (Nat.le_of_ble_eq_true rfl) hf (ct_I X q156 q154 q155 rfl hy_J2_init np_J2_init rfl dX2_init_9) (fun q h he hX => a_out (unc_of Z.2.1 rfl) Z.2.2.2.1 he hX) (fun _ h hf => ?kk9)
  refine AW.eq (g2 := F0 m 12 ls [va_rf (some x5), va_rf (some a1)]) rfl ?_
  refine a_putF (pc := 12) (φ := 300) X Z.1.2.1 Z.1.2.2.1 (gw X.1 X.2.1 q228) (fun _ q => q) (by decide) rfl Z.2.2.2.2.1 rfl (fits_rf _ (Or.inl ⟨_, rfl⟩)) dX2_init_12 hf (fun h hf => ?_)
  refine a_aload_n (pc := 15) X dX2_init_15 rfl hl 0 rfl ?_
  refine a_new (pc := 16) (cK := 25) (n := 3) X Z.1.2.1 Z.1.2.2.1 Z.1.2.2.2.1 Z.1.2.2.2.2.1 ⟨by decide, by decide, by decide⟩ (gw X.1 X.2.1 q152) (gw X.1 X.2.1 q153) (gw X.1 X.2.1 q78) dX2_init_16 hf (fun x16 h hf => ?_)
  refine AW.lift (fun _ _ _ _ k => lv_dup (pc := 19) X.2.2.1 X.2.2.2.1 dX2_init_19 (cat_rf _) k) ?_
  refine a_callb (pc := 20) (rs := [vR (some x16), vR (some a1)]) (avs := [vR (some x16)]) Z.1 (w_J2_init GA (some x16)) (Or.inl rfl) q156 q78 (by decide) (by decide) dX2_init_20 hl.1 (Nat.le_of_ble_eq_true rfl) hf (ct_I X q156 q154 q155 rfl hy_J2_init np_J2_init rfl dX2_init_20) (fun q h he hX => a_out (unc_of Z.2.1 rfl) Z.2.2.2.1 he hX) (fun _ h hf => ?kk20)
  refine AW.eq (g2 := F0 m 23 ls [va_rf (some x16), va_rf (some a1)]) rfl ?_
  refine a_putF (pc := 23) (φ := 301) X Z.1.2.1 Z.1.2.2.1 (gw X.1 X.2.1 q230) (fun _ q => q) (by decide) rfl Z.2.2.2.2.1 rfl (fits_rf _ (Or.inl ⟨_, rfl⟩)) dX2_init_23 hf (fun h hf => ?_)
  refine a_aload_n (pc := 26) X dX2_init_26 rfl hl 0 rfl ?_
  refine a_new (pc := 27) (cK := 25) (n := 3) X Z.1.2.1 Z.1.2.2.1 Z.1.2.2.2.1 Z.1.2.2.2.2.1 ⟨by decide, by decide, by decide⟩ (gw X.1 X.2.1 q152) (gw X.1 X.2.1 q153) (gw X.1 X.2.1 q78) dX2_init_27 hf (fun x27 h hf => ?_)
  refine AW.lift (fun _ _ _ _ k => lv_dup (pc := 30) X.2.2.1 X.2.2.2.1 dX2_init_30 (cat_rf _) k) ?_
  refine a_callb (pc := 31) (rs := [vR (some x27), vR (some a1)]) (avs := [vR (some x27)]) Z.1 (w_J2_init GA (some x27)) (Or.inl rfl) q156 q78 (by decide) (by decide) dX2_init_31 hl.1 (Nat.le_of_ble_eq_true rfl) hf (ct_I X q156 q154 q155 rfl hy_J2_init np_J2_init rfl dX2_init_31) (fun q h he hX => a_out (unc_of Z.2.1 rfl) Z.2.2.2.1 he hX) (fun _ h hf => ?kk31)
  refine AW.eq (g2 := F0 m 34 ls [va_rf (some x27), va_rf (some a1)]) rfl ?_
  refine a_putF (pc := 34) (φ := 302) X Z.1.2.1 Z.1.2.2.1 (gw X.1 X.2.1 q232) (fun _ q => q) (by decide) rfl Z.2.2.2.2.1 rfl (fits_rf _ (Or.inl ⟨_, rfl⟩)) dX2_init_34 hf (fun h hf => ?_)
  refine a_aload_n (pc := 37) X dX2_init_37 rfl hl 0 rfl ?_
  refine a_new (pc := 38) (cK := 25) (n := 3) X Z.1.2.1 Z.1.2.2.1 Z.1.2.2.2.1 Z.1.2.2.2.2.1 ⟨by decide, by decide, by decide⟩ (gw X.1 X.2.1 q152) (gw X.1 X.2.1 q153) (gw X.1 X.2.1 q78) dX2_init_38 hf (fun x38 h hf => ?_)
  refine AW.lift (fun _ _ _ _ k => lv_dup (pc := 41) X.2.2.1 X.2.2.2.1 dX2_init_41 (cat_rf _) k) ?_
  refine a_callb (pc := 42) (rs := [vR (some x38), vR (some a1)]) (avs := [vR (some x38)]) Z.1 (w_J2_init GA (some x38)) (Or.inl rfl) q156 q78 (by decide) (by decide) dX2_init_42 hl.1 (Nat.le_of_ble_eq_true rfl) hf (ct_I X q156 q154 q155 rfl hy_J2_init np_J2_init rfl dX2_init_42) (fun q h he hX => a_out (unc_of Z.2.1 rfl) Z.2.2.2.1 he hX) (fun _ h hf => ?kk42)
  refine AW.eq (g2 := F0 m 45 ls [va_rf (some x38), va_rf (some a1)]) rfl ?_
  refine a_putF (pc := 45) (φ := 303) X Z.1.2.1 Z.1.2.2.1 (gw X.1 X.2.1 q234) (fun _ q => q) (by decide) rfl Z.2.2.2.2.1 rfl (fits_rf _ (Or.inl ⟨_, rfl⟩)) dX2_init_45 hf (fun h hf => ?_)
  refine a_aload_n (pc := 48) X dX2_init_48 rfl hl 0 rfl ?_
  refine a_new (pc := 49) (cK := 7) (n := 1) X Z.1.2.1 Z.1.2.2.1 Z.1.2.2.2.1 Z.1.2.2.2.2.1 ⟨by decide, by decide, by decide⟩ (gw X.1 X.2.1 q181) (gw X.1 X.2.1 q182) (gw X.1 X.2.1 q79) dX2_init_49 hf (fun x49 h hf => ?_)
  refine AW.lift (fun _ _ _ _ k => lv_dup (pc := 52) X.2.2.1 X.2.2.2.1 dX2_init_52 (cat_rf _) k) ?_
  refine a_callb (pc := 53) (rs := [vR (some x49), vR (some a1)]) (avs := [vR (some x49)]) Z.1 (w_X3_init GA (some x49)) (Or.inl rfl) q185 q79 (by decide) (by decide) dX2_init_53 hl.1 (Nat.le_of_ble_eq_true rfl) hf (ct_IN X q185 q183 q184 rfl hy_X3_init np_X3_init rfl dX2_init_53) (fun q h he hX => a_out (unc_of Z.2.1 rfl) Z.2.2.2.1 he hX) (fun _ h hf => ?kk53)
  refine AW.eq (g2 := F0 m 56 ls [va_rf (some x49), va_rf (some a1)]) rfl ?_
  refine a_put (pc := 56) (φ := 304) X Z.1.2.1 Z.1.2.2.1 (gw X.1 X.2.1 q236) (fun _ q => q) (by decide) rfl (fits_rf _ (Or.inl ⟨_, rfl⟩)) dX2_init_56 hf (fun h hf => ?_)
  refine a_aload_n (pc := 59) X dX2_init_59 rfl hl 0 rfl ?_
  refine a_new (pc := 60) (cK := 7) (n := 1) X Z.1.2.1 Z.1.2.2.1 Z.1.2.2.2.1 Z.1.2.2.2.2.1 ⟨by decide, by decide, by decide⟩ (gw X.1 X.2.1 q181) (gw X.1 X.2.1 q182) (gw X.1 X.2.1 q79) dX2_init_60 hf (fun x60 h hf => ?_)
  refine AW.lift (fun _ _ _ _ k => lv_dup (pc := 63) X.2.2.1 X.2.2.2.1 dX2_init_63 (cat_rf _) k) ?_
  refine a_callb (pc := 64) (rs := [vR (some x60), vR (some a1)]) (avs := [vR (some x60)]) Z.1 (w_X3_init GA (some x60)) (Or.inl rfl) q185 q79 (by decide) (by decide) dX2_init_64 hl.1 (Nat.le_of_ble_eq_true rfl) hf (ct_IN X q185 q183 q184 rfl hy_X3_init np_X3_init rfl dX2_init_64) (fun q h he hX => a_out (unc_of Z.2.1 rfl) Z.2.2.2.1 he hX) (fun _ h hf => ?kk64)
  refine AW.eq (g2 := F0 m 67 ls [va_rf (some x60), va_rf (some a1)]) rfl ?_
  refine a_put (pc := 67) (φ := 305) X Z.1.2.1 Z.1.2.2.1 (gw X.1 X.2.1 q238) (fun _ q => q) (by decide) rfl (fits_rf _ (Or.inl ⟨_, rfl⟩)) dX2_init_67 hf (fun h hf => ?_)
  exact a_return X Z.2.2.1 Z.2.2.2.1 dX2_init_70 hf
theorem np_J5_init : npar yJ5_init.desc 1 := by unfold npar; decide +kernel
theorem hy_J5_init : yJ5_init.cls ≠ "java/lang/invoke/MethodHandle" ∧ yJ5_init.cls ≠ "java/lang/invoke/VarHandle" := by decide +kernel
theorem w_J5_init (GA : GA l s0 a0 K lam) (v0 : Option Nat) (v1 : Int32) : AMet l s0 K lam yJ5_init (Cond.code yJ5_init cJ5_init (2 : Nat) (Option.none : Option ClassFile.FieldType)) 1 20 [vR v0, vI v1] oV (f_J5_init K v0 v1) := by
  refine AMet.of GA.1 (plainFor_of_name (by decide +kernel)) (Nat.le_of_ble_eq_true rfl) ?_
  intro b r hf p e s m args below meth c X hr hlk hnm hnd ht ls hl
  have Z : WZ l s0 a0 K p s m c cJ5_init yJ5_init.cls 2 b { frames := 1, cells := K 0 - aX b, slots := K 1 - aW b, locals := 20 } 1 20 meth [] none yJ5_init := ⟨⟨X, GA.2.1, GA.2.2.1, rfl, rfl, Nat.le_refl _, Nat.le_refl _⟩, tab_nil ht, hr, hlk, hnm, hnd⟩
  unfold f_J5_init at hf
  clear hr hlk hnm hnd ht
  refine a_aload_n (pc := 0) X dJ5_init_0 rfl hl 0 rfl ?_
  obtain ⟨a1, rfl, hf⟩ := nz_some hf
  refine a_objInit (pc := 1) (rs := []) Z.1 q283 q144 q145 (by decide) (by decide) hl.1 (Nat.le_of_ble_eq_true rfl) dJ5_init_1 ?_
  refine AW.eq (g2 := F0 m 4 ls []) rfl ?_
  refine a_getstatic (pc := 4) (v := .int (1 : Int32)) X (st_COMPACT_STRINGS GA) (gw X.1 X.2.1 q284) (fun _ q => q) dJ5_init_4 ?_
  refine AW.lift2 (fun _ _ _ _ k1 k2 => lv_if_eq (pc := 7) (tgt := 25) X.2.2.1 X.2.2.2.1 dJ5_init_7 rfl k1 k2) (fun c => ?_) (fun c => ?_)
  · have hf := ite_t c hf
    refine a_aload_n (pc := 25) X dJ5_init_25 rfl hl 0 rfl ?_
    refine a_iload_n (pc := 26) X dJ5_init_26 rfl hl 1 rfl ?_
    exact fl_no hf
  · have hf := ite_f c hf
    refine a_aload_n (pc := 10) X dJ5_init_10 rfl hl 0 rfl ?_
    refine a_iload_n (pc := 11) X dJ5_init_11 rfl hl 1 rfl ?_
    refine a_newarray (pc := 12) (t := 1003) (atype := .byte) (by decide) rfl rfl rfl (by decide) (ra_byte GA) X Z.1.2.2.2.1 Z.1.2.2.2.2.1 (gw X.1 X.2.1 q308) dJ5_init_12 hf (fun x12 h hf => ?_)
    refine a_put (pc := 14) (φ := 3500) X Z.1.2.1 Z.1.2.2.1 (gw X.1 X.2.1 q293) (fun _ q => q) (by decide) rfl (fits_rf _ (Or.inr ⟨_, rfl⟩)) dJ5_init_14 hf (fun h hf => ?_)
    refine a_aload_n (pc := 17) X dJ5_init_17 rfl hl 0 rfl ?_
    refine AW.lift (fun _ _ _ _ k => lv_iconst (pc := 18) (v := (0 : Int32)) X.2.2.1 X.2.2.2.1 dJ5_init_18 rfl k) ?_
    refine a_put (pc := 19) (φ := 3501) X Z.1.2.1 Z.1.2.2.1 (gw X.1 X.2.1 q294) (fun _ q => q) (by decide) rfl rfl dJ5_init_19 hf (fun h hf => ?_)
    refine AW.lift (fun _ _ _ _ k => lv_goto (pc := 22) (tgt := 38) X.2.2.1 X.2.2.2.1 dJ5_init_22 rfl k) ?_
    exact a_return X Z.2.2.1 Z.2.2.2.1 dJ5_init_38 hf
theorem np_J6_init : npar yJ6_init.desc 0 := by unfold npar; decide +kernel
theorem hy_J6_init : yJ6_init.cls ≠ "java/lang/invoke/MethodHandle" ∧ yJ6_init.cls ≠ "java/lang/invoke/VarHandle" := by decide +kernel
theorem w_J6_init (GA : GA l s0 a0 K lam) (v0 : Option Nat) : AMet l s0 K lam yJ6_init (Cond.code yJ6_init cJ6_init (1 : Nat) (Option.none : Option ClassFile.FieldType)) 2 41 [vR v0] oV (f_J6_init K v0) := by
  refine AMet.of GA.1 (plainFor_of_name (by decide +kernel)) (Nat.le_of_ble_eq_true rfl) ?_
  intro b r hf p e s m args below meth c X hr hlk hnm hnd ht ls hl
  have Z : WZ l s0 a0 K p s m c cJ6_init yJ6_init.cls 1 b { frames := 2, cells := K 0 - aX b, slots := K 1 - aW b, locals := 41 } 2 41 meth [] none yJ6_init := ⟨⟨X, GA.2.1, GA.2.2.1, rfl, rfl, Nat.le_refl _, Nat.le_refl _⟩, tab_nil ht, hr, hlk, hnm, hnd⟩
  unfold f_J6_init at hf
  clear hr hlk hnm hnd ht
  refine a_aload_n (pc := 0) X dJ6_init_0 rfl hl 0 rfl ?_
  refine AW.lift (fun _ _ _ _ k => lv_bipush (pc := 1) (v := (16 : Int32)) X.2.2.1 X.2.2.2.1 dJ6_init_1 rfl k) ?_
  obtain ⟨a3, rfl, hf⟩ := nz_some hf
  refine a_callb (pc := 3) (rs := []) (avs := [vR (some a3), vI (16 : Int32)]) Z.1 (w_J5_init GA (some a3) (16 : Int32)) (Or.inl rfl) q282 q82 (by decide) (by decide) dJ6_init_3 hl.1 (Nat.le_of_ble_eq_true rfl) hf (ct_I X q282 q280 q281 rfl hy_J5_init np_J5_init rfl dJ6_init_3) (fun q h he hX => a_out (unc_of Z.2.1 rfl) Z.2.2.2.1 he hX) (fun _ h hf => ?kk3)
  refine AW.eq (g2 := F0 m 6 ls []) rfl ?_
  exact a_return X Z.2.2.1 Z.2.2.2.1 dJ6_init_6 hf
theorem np_X1_init : npar yX1_init.desc 0 := by unfold npar; decide +kernel
theorem hy_X1_init : yX1_init.cls ≠ "java/lang/invoke/MethodHandle" ∧ yX1_init.cls ≠ "java/lang/invoke/VarHandle" := by decide +kernel
theorem w_X1_init (GA : GA l s0 a0 K lam) (v0 : Option Nat) : AMet l s0 K lam yX1_init (Cond.code yX1_init cX1_init (1 : Nat) (Option.none : Option ClassFile.FieldType)) 5 100 [vR v0] oV (f_X1_init K v0) := by
  refine AMet.of GA.1 (plainFor_of_name (by decide +kernel)) (Nat.le_of_ble_eq_true rfl) ?_
  intro b r hf p e s m args below meth c X hr hlk hnm hnd ht ls hl
  have Z : WZ l s0 a0 K p s m c cX1_init yX1_init.cls 1 b { frames := 5, cells := K 0 - aX b, slots := K 1 - aW b, locals := 100 } 5 100 meth [] none yX1_init := ⟨⟨X, GA.2.1, GA.2.2.1, rfl, rfl, Nat.le_refl _, Nat.le_refl _⟩, tab_nil ht, hr, hlk, hnm, hnd⟩
  unfold f_X1_init at hf
  clear hr hlk hnm hnd ht
  refine a_aload_n (pc := 0) X dX1_init_0 rfl hl 0 rfl ?_
  obtain ⟨a1, rfl, hf⟩ := nz_some hf
  refine a_objInit (pc := 1) (rs := []) Z.1 q143 q144 q145 (by decide) (by decide) hl.1 (Nat.le_of_ble_eq_true rfl) dX1_init_1 ?_
  refine AW.eq (g2 := F0 m 4 ls []) rfl ?_
  refine a_aload_n (pc := 4) X dX1_init_4 rfl hl 0 rfl ?_
  refine a_new (pc := 5) (cK := 3) (n := 11) X Z.1.2.1 Z.1.2.2.1 Z.1.2.2.2.1 Z.1.2.2.2.2.1 ⟨by decide, by decide, by decide⟩ (gw X.1 X.2.1 q146) (gw X.1 X.2.1 q147) (gw X.1 X.2.1 q75) dX1_init_5 hf (fun x5 h hf => ?_)
  refine AW.lift (fun _ _ _ _ k => lv_dup (pc := 8) X.2.2.1 X.2.2.2.1 dX1_init_8 (cat_rf _) k) ?_
  refine a_callb (pc := 9) (rs := [vR (some x5), vR (some a1)]) (avs := [vR (some x5)]) Z.1 (w_X2_init GA (some x5)) (Or.inl rfl) q150 q75 (by decide) (by decide) dX1_init_9 hl.1 (Nat.le_of_ble_eq_true rfl) hf (ct_IN X q150 q148 q149 rfl hy_X2_init np_X2_init rfl dX1_init_9) (fun q h he hX => a_out (unc_of Z.2.1 rfl) Z.2.2.2.1 he hX) (fun _ h hf => ?kk9)
  refine AW.eq (g2 := F0 m 12 ls [va_rf (some x5), va_rf (some a1)]) rfl ?_
  refine a_put (pc := 12) (φ := 200) X Z.1.2.1 Z.1.2.2.1 (gw X.1 X.2.1 q309) (fun _ q => q) (by decide) rfl (fits_rf _ (Or.inl ⟨_, rfl⟩)) dX1_init_12 hf (fun h hf => ?_)
  refine a_aload_n (pc := 15) X dX1_init_15 rfl hl 0 rfl ?_
  refine a_new (pc := 16) (cK := 25) (n := 3) X Z.1.2.1 Z.1.2.2.1 Z.1.2.2.2.1 Z.1.2.2.2.2.1 ⟨by decide, by decide, by decide⟩ (gw X.1 X.2.1 q273) (gw X.1 X.2.1 q153) (gw X.1 X.2.1 q78) dX1_init_16 hf (fun x16 h hf => ?_)
  refine AW.lift (fun _ _ _ _ k => lv_dup (pc := 19) X.2.2.1 X.2.2.2.1 dX1_init_19 (cat_rf _) k) ?_
  refine a_callb (pc := 20) (rs := [vR (some x16), vR (some a1)]) (avs := [vR (some x16)]) Z.1 (w_J2_init GA (some x16)) (Or.inl rfl) q156 q78 (by decide) (by decide) dX1_init_20 hl.1 (Nat.le_of_ble_eq_true rfl) hf (ct_I X q156 q274 q155 rfl hy_J2_init np_J2_init rfl dX1_init_20) (fun q h he hX => a_out (unc_of Z.2.1 rfl) Z.2.2.2.1 he hX) (fun _ h hf => ?kk20)
  refine AW.eq (g2 := F0 m 23 ls [va_rf (some x16), va_rf (some a1)]) rfl ?_
  refine a_putF (pc := 23) (φ := 202) X Z.1.2.1 Z.1.2.2.1 (gw X.1 X.2.1 q311) (fun _ q => q) (by decide) rfl Z.2.2.2.2.1 rfl (fits_rf _ (Or.inl ⟨_, rfl⟩)) dX1_init_23 hf (fun h hf => ?_)
  refine a_aload_n (pc := 26) X dX1_init_26 rfl hl 0 rfl ?_
  refine AW.lift (fun _ _ _ _ k => lv_bipush (pc := 27) (v := (60 : Int32)) X.2.2.1 X.2.2.2.1 dX1_init_27 rfl k) ?_
  refine a_newarray (pc := 29) (t := 1002) (atype := .char) (by decide) rfl rfl rfl (by decide) (ra_char GA) X Z.1.2.2.2.1 Z.1.2.2.2.2.1 (gw X.1 X.2.1 q307) dX1_init_29 hf (fun x29 h hf => ?_)
  refine a_putF (pc := 31) (φ := 203) X Z.1.2.1 Z.1.2.2.1 (gw X.1 X.2.1 q312) (fun _ q => q) (by decide) rfl Z.2.2.2.2.1 rfl (fits_rf _ (Or.inr ⟨_, rfl⟩)) dX1_init_31 hf (fun h hf => ?_)
  refine a_aload_n (pc := 34) X dX1_init_34 rfl hl 0 rfl ?_
  refine a_new (pc := 35) (cK := 36) (n := 4) X Z.1.2.1 Z.1.2.2.1 Z.1.2.2.2.1 Z.1.2.2.2.2.1 ⟨by decide, by decide, by decide⟩ (gw X.1 X.2.1 q275) (gw X.1 X.2.1 q276) (gw X.1 X.2.1 q83) dX1_init_35 hf (fun x35 h hf => ?_)
  refine AW.lift (fun _ _ _ _ k => lv_dup (pc := 38) X.2.2.1 X.2.2.2.1 dX1_init_38 (cat_rf _) k) ?_
  refine a_callb (pc := 39) (rs := [vR (some x35), vR (some a1)]) (avs := [vR (some x35)]) Z.1 (w_J6_init GA (some x35)) (Or.inl rfl) q279 q83 (by decide) (by decide) dX1_init_39 hl.1 (Nat.le_of_ble_eq_true rfl) hf (ct_I X q279 q277 q278 rfl hy_J6_init np_J6_init rfl dX1_init_39) (fun q h he hX => a_out (unc_of Z.2.1 rfl) Z.2.2.2.1 he hX) (fun _ h hf => ?kk39)
  refine AW.eq (g2 := F0 m 42 ls [va_rf (some x35), va_rf (some a1)]) rfl ?_
  refine a_putF (pc := 42) (φ := 204) X Z.1.2.1 Z.1.2.2.1 (gw X.1 X.2.1 q313) (fun _ q => q) (by decide) rfl Z.2.2.2.2.1 rfl (fits_rf _ (Or.inl ⟨_, rfl⟩)) dX1_init_42 hf (fun h hf => ?_)
  exact a_return X Z.2.2.1 Z.2.2.2.1 dX1_init_45 hf
theorem np_X4_init : npar yX4_init.desc 0 := by unfold npar; decide +kernel
theorem hy_X4_init : yX4_init.cls ≠ "java/lang/invoke/MethodHandle" ∧ yX4_init.cls ≠ "java/lang/invoke/VarHandle" := by decide +kernel
theorem w_X4_init (GA : GA l s0 a0 K lam) (v0 : Option Nat) : AMet l s0 K lam yX4_init (Cond.code yX4_init cX4_init (1 : Nat) (Option.none : Option ClassFile.FieldType)) 1 20 [vR v0] oV (f_X4_init K v0) := by
  refine AMet.of GA.1 (plainFor_of_name (by decide +kernel)) (Nat.le_of_ble_eq_true rfl) ?_
  intro b r hf p e s m args below meth c X hr hlk hnm hnd ht ls hl
  have Z : WZ l s0 a0 K p s m c cX4_init yX4_init.cls 1 b { frames := 1, cells := K 0 - aX b, slots := K 1 - aW b, locals := 20 } 1 20 meth [] none yX4_init := ⟨⟨X, GA.2.1, GA.2.2.1, rfl, rfl, Nat.le_refl _, Nat.le_refl _⟩, tab_nil ht, hr, hlk, hnm, hnd⟩
  unfold f_X4_init at hf
  clear hr hlk hnm hnd ht
  refine a_aload_n (pc := 0) X dX4_init_0 rfl hl 0 rfl ?_
  obtain ⟨a1, rfl, hf⟩ := nz_some hf
  refine a_objInit (pc := 1) (rs := []) Z.1 q3024 q144 q145 (by decide) (by decide) hl.1 (Nat.le_of_ble_eq_true rfl) dX4_init_1 ?_
  refine AW.eq (g2 := F0 m 4 ls []) rfl ?_
  refine a_aload_n (pc := 4) X dX4_init_4 rfl hl 0 rfl ?_
  refine AW.lift (fun _ _ _ _ k => lv_sipush (pc := 5) (v := (306 : Int32)) X.2.2.1 X.2.2.2.1 dX4_init_5 rfl k) ?_
  refine a_newarray (pc := 8) (t := 1001) (atype := .int) (by decide) rfl rfl rfl (by decide) (ra_int GA) X Z.1.2.2.2.1 Z.1.2.2.2.2.1 (gw X.1 X.2.1 q829) dX4_init_8 hf (fun x8 h hf => ?_)
  refine a_putF (pc := 10) (φ := 100) X Z.1.2.1 Z.1.2.2.1 (gw X.1 X.2.1 q3025) (fun _ q => q) (by decide) rfl Z.2.2.2.2.1 rfl (fits_rf _ (Or.inr ⟨_, rfl⟩)) dX4_init_10 hf (fun h hf => ?_)
  refine a_aload_n (pc := 13) X dX4_init_13 rfl hl 0 rfl ?_
  refine AW.lift (fun _ _ _ _ k => lv_sipush (pc := 14) (v := (306 : Int32)) X.2.2.1 X.2.2.2.1 dX4_init_14 rfl k) ?_
  refine a_newarray (pc := 17) (t := 1001) (atype := .int) (by decide) rfl rfl rfl (by decide) (ra_int GA) X Z.1.2.2.2.1 Z.1.2.2.2.2.1 (gw X.1 X.2.1 q829) dX4_init_17 hf (fun x17 h hf => ?_)
  refine a_putF (pc := 19) (φ := 101) X Z.1.2.1 Z.1.2.2.1 (gw X.1 X.2.1 q3026) (fun _ q => q) (by decide) rfl Z.2.2.2.2.1 rfl (fits_rf _ (Or.inr ⟨_, rfl⟩)) dX4_init_19 hf (fun h hf => ?_)
  refine a_aload_n (pc := 22) X dX4_init_22 rfl hl 0 rfl ?_
  refine AW.lift (fun _ _ _ _ k => lv_sipush (pc := 23) (v := (306 : Int32)) X.2.2.1 X.2.2.2.1 dX4_init_23 rfl k) ?_
  refine a_newarray (pc := 26) (t := 1001) (atype := .int) (by decide) rfl rfl rfl (by decide) (ra_int GA) X Z.1.2.2.2.1 Z.1.2.2.2.2.1 (gw X.1 X.2.1 q829) dX4_init_26 hf (fun x26 h hf => ?_)
  refine a_putF (pc := 28) (φ := 102) X Z.1.2.1 Z.1.2.2.1 (gw X.1 X.2.1 q3027) (fun _ q => q) (by decide) rfl Z.2.2.2.2.1 rfl (fits_rf _ (Or.inr ⟨_, rfl⟩)) dX4_init_28 hf (fun h hf => ?_)
  refine a_aload_n (pc := 31) X dX4_init_31 rfl hl 0 rfl ?_
  refine AW.lift (fun _ _ _ _ k => lv_sipush (pc := 32) (v := (306 : Int32)) X.2.2.1 X.2.2.2.1 dX4_init_32 rfl k) ?_
  refine a_newarray (pc := 35) (t := 1001) (atype := .int) (by decide) rfl rfl rfl (by decide) (ra_int GA) X Z.1.2.2.2.1 Z.1.2.2.2.2.1 (gw X.1 X.2.1 q829) dX4_init_35 hf (fun x35 h hf => ?_)
  refine a_putF (pc := 37) (φ := 103) X Z.1.2.1 Z.1.2.2.1 (gw X.1 X.2.1 q3028) (fun _ q => q) (by decide) rfl Z.2.2.2.2.1 rfl (fits_rf _ (Or.inr ⟨_, rfl⟩)) dX4_init_37 hf (fun h hf => ?_)
  refine a_aload_n (pc := 40) X dX4_init_40 rfl hl 0 rfl ?_
  refine AW.lift (fun _ _ _ _ k => lv_sipush (pc := 41) (v := (1836 : Int32)) X.2.2.1 X.2.2.2.1 dX4_init_41 rfl k) ?_
  refine a_newarray (pc := 44) (t := 1001) (atype := .int) (by decide) rfl rfl rfl (by decide) (ra_int GA) X Z.1.2.2.2.1 Z.1.2.2.2.2.1 (gw X.1 X.2.1 q829) dX4_init_44 hf (fun x44 h hf => ?_)
  refine a_putF (pc := 46) (φ := 105) X Z.1.2.1 Z.1.2.2.1 (gw X.1 X.2.1 q3030) (fun _ q => q) (by decide) rfl Z.2.2.2.2.1 rfl (fits_rf _ (Or.inr ⟨_, rfl⟩)) dX4_init_46 hf (fun h hf => ?_)
  refine a_aload_n (pc := 49) X dX4_init_49 rfl hl 0 rfl ?_
  refine AW.lift (fun _ _ _ _ k => lv_iconst (pc := 50) (v := (4 : Int32)) X.2.2.1 X.2.2.2.1 dX4_init_50 rfl k) ?_
  refine a_newarray (pc := 51) (t := 1001) (atype := .int) (by decide) rfl rfl rfl (by decide) (ra_int GA) X Z.1.2.2.2.1 Z.1.2.2.2.2.1 (gw X.1 X.2.1 q829) dX4_init_51 hf (fun x51 h hf => ?_)
  refine a_putF (pc := 53) (φ := 108) X Z.1.2.1 Z.1.2.2.1 (gw X.1 X.2.1 q3033) (fun _ q => q) (by decide) rfl Z.2.2.2.2.1 rfl (fits_rf _ (Or.inr ⟨_, rfl⟩)) dX4_init_53 hf (fun h hf => ?_)
  refine a_aload_n (pc := 56) X dX4_init_56 rfl hl 0 rfl ?_
  refine AW.lift (fun _ _ _ _ k => lv_iconst (pc := 57) (v := (4 : Int32)) X.2.2.1 X.2.2.2.1 dX4_init_57 rfl k) ?_
  refine a_newarray (pc := 58) (t := 1001) (atype := .int) (by decide) rfl rfl rfl (by decide) (ra_int GA) X Z.1.2.2.2.1 Z.1.2.2.2.2.1 (gw X.1 X.2.1 q829) dX4_init_58 hf (fun x58 h hf => ?_)
  refine a_putF (pc := 60) (φ := 109) X Z.1.2.1 Z.1.2.2.1 (gw X.1 X.2.1 q3034) (fun _ q => q) (by decide) rfl Z.2.2.2.2.1 rfl (fits_rf _ (Or.inr ⟨_, rfl⟩)) dX4_init_60 hf (fun h hf => ?_)
  refine a_aload_n (pc := 63) X dX4_init_63 rfl hl 0 rfl ?_
  refine AW.lift (fun _ _ _ _ k => lv_iconst (pc := 64) (v := (-1 : Int32)) X.2.2.1 X.2.2.2.1 dX4_init_64 rfl k) ?_
  refine a_put (pc := 65) (φ := 111) X Z.1.2.1 Z.1.2.2.1 (gw X.1 X.2.1 q3036) (fun _ q => q) (by decide) rfl rfl dX4_init_65 hf (fun h hf => ?_)
  refine a_aload_n (pc := 68) X dX4_init_68 rfl hl 0 rfl ?_
  refine AW.lift (fun _ _ _ _ k => lv_bipush (pc := 69) (v := (60 : Int32)) X.2.2.1 X.2.2.2.1 dX4_init_69 rfl k) ?_
  refine a_newarray (pc := 71) (t := 1001) (atype := .int) (by decide) rfl rfl rfl (by decide) (ra_int GA) X Z.1.2.2.2.1 Z.1.2.2.2.2.1 (gw X.1 X.2.1 q829) dX4_init_71 hf (fun x71 h hf => ?_)
  refine a_putF (pc := 73) (φ := 112) X Z.1.2.1 Z.1.2.2.1 (gw X.1 X.2.1 q3037) (fun _ q => q) (by decide) rfl Z.2.2.2.2.1 rfl (fits_rf _ (Or.inr ⟨_, rfl⟩)) dX4_init_73 hf (fun h hf => ?_)
  refine a_aload_n (pc := 76) X dX4_init_76 rfl hl 0 rfl ?_
  refine AW.lift (fun _ _ _ _ k => lv_bipush (pc := 77) (v := (16 : Int32)) X.2.2.1 X.2.2.2.1 dX4_init_77 rfl k) ?_
  refine a_newarray (pc := 79) (t := 1001) (atype := .int) (by decide) rfl rfl rfl (by decide) (ra_int GA) X Z.1.2.2.2.1 Z.1.2.2.2.2.1 (gw X.1 X.2.1 q829) dX4_init_79 hf (fun x79 h hf => ?_)
  refine a_putF (pc := 81) (φ := 115) X Z.1.2.1 Z.1.2.2.1 (gw X.1 X.2.1 q3040) (fun _ q => q) (by decide) rfl Z.2.2.2.2.1 rfl (fits_rf _ (Or.inr ⟨_, rfl⟩)) dX4_init_81 hf (fun h hf => ?_)
  refine a_aload_n (pc := 84) X dX4_init_84 rfl hl 0 rfl ?_
  refine AW.lift (fun _ _ _ _ k => lv_bipush (pc := 85) (v := (26 : Int32)) X.2.2.1 X.2.2.2.1 dX4_init_85 rfl k) ?_
  refine a_newarray (pc := 87) (t := 1002) (atype := .char) (by decide) rfl rfl rfl (by decide) (ra_char GA) X Z.1.2.2.2.1 Z.1.2.2.2.2.1 (gw X.1 X.2.1 q307) dX4_init_87 hf (fun x87 h hf => ?_)
  refine AW.lift (fun _ _ _ _ k => lv_dup (pc := 89) X.2.2.1 X.2.2.2.1 dX4_init_89 (cat_rf _) k) ?_
  refine AW.lift (fun _ _ _ _ k => lv_iconst (pc := 90) (v := (0 : Int32)) X.2.2.1 X.2.2.2.1 dX4_init_90 rfl k) ?_
  refine AW.lift (fun _ _ _ _ k => lv_bipush (pc := 91) (v := (117 : Int32)) X.2.2.1 X.2.2.2.1 dX4_init_91 rfl k) ?_
  refine a_castore (pc := 93) X rfl dX4_init_93 hf (fun h hf => ?_)
  refine AW.lift (fun _ _ _ _ k => lv_dup (pc := 94) X.2.2.1 X.2.2.2.1 dX4_init_94 (cat_rf _) k) ?_
  refine AW.lift (fun _ _ _ _ k => lv_iconst (pc := 95) (v := (1 : Int32)) X.2.2.1 X.2.2.2.1 dX4_init_95 rfl k) ?_
  refine AW.lift (fun _ _ _ _ k => lv_bipush (pc := 96) (v := (112 : Int32)) X.2.2.1 X.2.2.2.1 dX4_init_96 rfl k) ?_
  refine a_castore (pc := 98) X rfl dX4_init_98 hf (fun h hf => ?_)
  refine AW.lift (fun _ _ _ _ k => lv_dup (pc := 99) X.2.2.1 X.2.2.2.1 dX4_init_99 (cat_rf _) k) ?_
  refine AW.lift (fun _ _ _ _ k => lv_iconst (pc := 100) (v := (2 : Int32)) X.2.2.1 X.2.2.2.1 dX4_init_100 rfl k) ?_
  refine AW.lift (fun _ _ _ _ k => lv_bipush (pc := 101) (v := (100 : Int32)) X.2.2.1 X.2.2.2.1 dX4_init_101 rfl k) ?_
  refine a_castore (pc := 103) X rfl dX4_init_103 hf (fun h hf => ?_)
  refine AW.lift (fun _ _ _ _ k => lv_dup (pc := 104) X.2.2.1 X.2.2.2.1 dX4_init_104 (cat_rf _) k) ?_
  refine AW.lift (fun _ _ _ _ k => lv_iconst (pc := 105) (v := (3 : Int32)) X.2.2.1 X.2.2.2.1 dX4_init_105 rfl k) ?_
  refine AW.lift (fun _ _ _ _ k => lv_bipush (pc := 106) (v := (111 : Int32)) X.2.2.1 X.2.2.2.1 dX4_init_106 rfl k) ?_
  refine a_castore (pc := 108) X rfl dX4_init_108 hf (fun h hf => ?_)
  refine AW.lift (fun _ _ _ _ k => lv_dup (pc := 109) X.2.2.1 X.2.2.2.1 dX4_init_109 (cat_rf _) k) ?_
  refine AW.lift (fun _ _ _ _ k => lv_iconst (pc := 110) (v := (4 : Int32)) X.2.2.1 X.2.2.2.1 dX4_init_110 rfl k) ?_
  refine AW.lift (fun _ _ _ _ k => lv_bipush (pc := 111) (v := (119 : Int32)) X.2.2.1 X.2.2.2.1 dX4_init_111 rfl k) ?_
  refine a_castore (pc := 113) X rfl dX4_init_113 hf (fun h hf => ?_)
  refine AW.lift (fun _ _ _ _ k => lv_dup (pc := 114) X.2.2.1 X.2.2.2.1 dX4_init_114 (cat_rf _) k) ?_
  refine AW.lift (fun _ _ _ _ k => lv_iconst (pc := 115) (v := (5 : Int32)) X.2.2.1 X.2.2.2.1 dX4_init_115 rfl k) ?_
  refine AW.lift (fun _ _ _ _ k => lv_bipush (pc := 116) (v := (110 : Int32)) X.2.2.1 X.2.2.2.1 dX4_init_116 rfl k) ?_
  refine a_castore (pc := 118) X rfl dX4_init_118 hf (fun h hf => ?_)
  refine AW.lift (fun _ _ _ _ k => lv_dup (pc := 119) X.2.2.1 X.2.2.2.1 dX4_init_119 (cat_rf _) k) ?_
  refine AW.lift (fun _ _ _ _ k => lv_bipush (pc := 120) (v := (6 : Int32)) X.2.2.1 X.2.2.2.1 dX4_init_120 rfl k) ?_
  refine AW.lift (fun _ _ _ _ k => lv_bipush (pc := 122) (v := (115 : Int32)) X.2.2.1 X.2.2.2.1 dX4_init_122 rfl k) ?_
  refine a_castore (pc := 124) X rfl dX4_init_124 hf (fun h hf => ?_)
  refine AW.lift (fun _ _ _ _ k => lv_dup (pc := 125) X.2.2.1 X.2.2.2.1 dX4_init_125 (cat_rf _) k) ?_
  refine AW.lift (fun _ _ _ _ k => lv_bipush (pc := 126) (v := (7 : Int32)) X.2.2.1 X.2.2.2.1 dX4_init_126 rfl k) ?_
  refine AW.lift (fun _ _ _ _ k => lv_bipush (pc := 128) (v := (101 : Int32)) X.2.2.1 X.2.2.2.1 dX4_init_128 rfl k) ?_
  refine a_castore (pc := 130) X rfl dX4_init_130 hf (fun h hf => ?_)
  refine AW.lift (fun _ _ _ _ k => lv_dup (pc := 131) X.2.2.1 X.2.2.2.1 dX4_init_131 (cat_rf _) k) ?_
  refine AW.lift (fun _ _ _ _ k => lv_bipush (pc := 132) (v := (8 : Int32)) X.2.2.1 X.2.2.2.1 dX4_init_132 rfl k) ?_
  refine AW.lift (fun _ _ _ _ k => lv_bipush (pc := 134) (v := (108 : Int32)) X.2.2.1 X.2.2.2.1 dX4_init_134 rfl k) ?_
  refine a_castore (pc := 136) X rfl dX4_init_136 hf (fun h hf => ?_)
  refine AW.lift (fun _ _ _ _ k => lv_dup (pc := 137) X.2.2.1 X.2.2.2.1 dX4_init_137 (cat_rf _) k) ?_
  refine AW.lift (fun _ _ _ _ k => lv_bipush (pc := 138) (v := (9 : Int32)) X.2.2.1 X.2.2.2.1 dX4_init_138 rfl k) ?_
  refine AW.lift (fun _ _ _ _ k => lv_bipush (pc := 140) (v := (108 : Int32)) X.2.2.1 X.2.2.2.1 dX4_init_140 rfl k) ?_
  refine a_castore (pc := 142) X rfl dX4_init_142 hf (fun h hf => ?_)
  refine AW.lift (fun _ _ _ _ k => lv_dup (pc := 143) X.2.2.1 X.2.2.2.1 dX4_init_143 (cat_rf _) k) ?_
  refine AW.lift (fun _ _ _ _ k => lv_bipush (pc := 144) (v := (10 : Int32)) X.2.2.1 X.2.2.2.1 dX4_init_144 rfl k) ?_
  refine AW.lift (fun _ _ _ _ k => lv_bipush (pc := 146) (v := (103 : Int32)) X.2.2.1 X.2.2.2.1 dX4_init_146 rfl k) ?_
  refine a_castore (pc := 148) X rfl dX4_init_148 hf (fun h hf => ?_)
  refine AW.lift (fun _ _ _ _ k => lv_dup (pc := 149) X.2.2.1 X.2.2.2.1 dX4_init_149 (cat_rf _) k) ?_
  refine AW.lift (fun _ _ _ _ k => lv_bipush (pc := 150) (v := (11 : Int32)) X.2.2.1 X.2.2.2.1 dX4_init_150 rfl k) ?_
  refine AW.lift (fun _ _ _ _ k => lv_bipush (pc := 152) (v := (117 : Int32)) X.2.2.1 X.2.2.2.1 dX4_init_152 rfl k) ?_
  refine a_castore (pc := 154) X rfl dX4_init_154 hf (fun h hf => ?_)
  refine AW.lift (fun _ _ _ _ k => lv_dup (pc := 155) X.2.2.1 X.2.2.2.1 dX4_init_155 (cat_rf _) k) ?_
  refine AW.lift (fun _ _ _ _ k => lv_bipush (pc := 156) (v := (12 : Int32)) X.2.2.1 X.2.2.2.1 dX4_init_156 rfl k) ?_
  refine AW.lift (fun _ _ _ _ k => lv_bipush (pc := 158) (v := (97 : Int32)) X.2.2.1 X.2.2.2.1 dX4_init_158 rfl k) ?_
  refine a_castore (pc := 160) X rfl dX4_init_160 hf (fun h hf => ?_)
  refine AW.lift (fun _ _ _ _ k => lv_dup (pc := 161) X.2.2.1 X.2.2.2.1 dX4_init_161 (cat_rf _) k) ?_
  refine AW.lift (fun _ _ _ _ k => lv_bipush (pc := 162) (v := (13 : Int32)) X.2.2.1 X.2.2.2.1 dX4_init_162 rfl k) ?_
  refine AW.lift (fun _ _ _ _ k => lv_bipush (pc := 164) (v := (114 : Int32)) X.2.2.1 X.2.2.2.1 dX4_init_164 rfl k) ?_
  refine a_castore (pc := 166) X rfl dX4_init_166 hf (fun h hf => ?_)
  refine AW.lift (fun _ _ _ _ k => lv_dup (pc := 167) X.2.2.1 X.2.2.2.1 dX4_init_167 (cat_rf _) k) ?_
  refine AW.lift (fun _ _ _ _ k => lv_bipush (pc := 168) (v := (14 : Int32)) X.2.2.1 X.2.2.2.1 dX4_init_168 rfl k) ?_
  refine AW.lift (fun _ _ _ _ k => lv_bipush (pc := 170) (v := (100 : Int32)) X.2.2.1 X.2.2.2.1 dX4_init_170 rfl k) ?_
  refine a_castore (pc := 172) X rfl dX4_init_172 hf (fun h hf => ?_)
  refine AW.lift (fun _ _ _ _ k => lv_dup (pc := 173) X.2.2.1 X.2.2.2.1 dX4_init_173 (cat_rf _) k) ?_
  refine AW.lift (fun _ _ _ _ k => lv_bipush (pc := 174) (v := (15 : Int32)) X.2.2.1 X.2.2.2.1 dX4_init_174 rfl k) ?_
  refine AW.lift (fun _ _ _ _ k => lv_bipush (pc := 176) (v := (102 : Int32)) X.2.2.1 X.2.2.2.1 dX4_init_176 rfl k) ?_
  refine a_castore (pc := 178) X rfl dX4_init_178 hf (fun h hf => ?_)
  refine AW.lift (fun _ _ _ _ k => lv_dup (pc := 179) X.2.2.1 X.2.2.2.1 dX4_init_179 (cat_rf _) k) ?_
  refine AW.lift (fun _ _ _ _ k => lv_bipush (pc := 180) (v := (16 : Int32)) X.2.2.1 X.2.2.2.1 dX4_init_180 rfl k) ?_
  refine AW.lift (fun _ _ _ _ k => lv_bipush (pc := 182) (v := (105 : Int32)) X.2.2.1 X.2.2.2.1 dX4_init_182 rfl k) ?_
  refine a_castore (pc := 184) X rfl dX4_init_184 hf (fun h hf => ?_)
  refine AW.lift (fun _ _ _ _ k => lv_dup (pc := 185) X.2.2.1 X.2.2.2.1 dX4_init_185 (cat_rf _) k) ?_
  refine AW.lift (fun _ _ _ _ k => lv_bipush (pc := 186) (v := (17 : Int32)) X.2.2.1 X.2.2.2.1 dX4_init_186 rfl k) ?_
  refine AW.lift (fun _ _ _ _ k => lv_bipush (pc := 188) (v := (120 : Int32)) X.2.2.1 X.2.2.2.1 dX4_init_188 rfl k) ?_
  refine a_castore (pc := 190) X rfl dX4_init_190 hf (fun h hf => ?_)
  refine AW.lift (fun _ _ _ _ k => lv_dup (pc := 191) X.2.2.1 X.2.2.2.1 dX4_init_191 (cat_rf _) k) ?_
  refine AW.lift (fun _ _ _ _ k => lv_bipush (pc := 192) (v := (18 : Int32)) X.2.2.1 X.2.2.2.1 dX4_init_192 rfl k) ?_
  refine AW.lift (fun _ _ _ _ k => lv_bipush (pc := 194) (v := (111 : Int32)) X.2.2.1 X.2.2.2.1 dX4_init_194 rfl k) ?_
  refine a_castore (pc := 196) X rfl dX4_init_196 hf (fun h hf => ?_)
  refine AW.lift (fun _ _ _ _ k => lv_dup (pc := 197) X.2.2.1 X.2.2.2.1 dX4_init_197 (cat_rf _) k) ?_
  refine AW.lift (fun _ _ _ _ k => lv_bipush (pc := 198) (v := (19 : Int32)) X.2.2.1 X.2.2.2.1 dX4_init_198 rfl k) ?_
  refine AW.lift (fun _ _ _ _ k => lv_bipush (pc := 200) (v := (112 : Int32)) X.2.2.1 X.2.2.2.1 dX4_init_200 rfl k) ?_
  refine a_castore (pc := 202) X rfl dX4_init_202 hf (fun h hf => ?_)
  refine AW.lift (fun _ _ _ _ k => lv_dup (pc := 203) X.2.2.1 X.2.2.2.1 dX4_init_203 (cat_rf _) k) ?_
  refine AW.lift (fun _ _ _ _ k => lv_bipush (pc := 204) (v := (20 : Int32)) X.2.2.1 X.2.2.2.1 dX4_init_204 rfl k) ?_
  refine AW.lift (fun _ _ _ _ k => lv_bipush (pc := 206) (v := (101 : Int32)) X.2.2.1 X.2.2.2.1 dX4_init_206 rfl k) ?_
  refine a_castore (pc := 208) X rfl dX4_init_208 hf (fun h hf => ?_)
  refine AW.lift (fun _ _ _ _ k => lv_dup (pc := 209) X.2.2.1 X.2.2.2.1 dX4_init_209 (cat_rf _) k) ?_
  refine AW.lift (fun _ _ _ _ k => lv_bipush (pc := 210) (v := (21 : Int32)) X.2.2.1 X.2.2.2.1 dX4_init_210 rfl k) ?_
  refine AW.lift (fun _ _ _ _ k => lv_bipush (pc := 212) (v := (110 : Int32)) X.2.2.1 X.2.2.2.1 dX4_init_212 rfl k) ?_
  refine a_castore (pc := 214) X rfl dX4_init_214 hf (fun h hf => ?_)
  refine AW.lift (fun _ _ _ _ k => lv_dup (pc := 215) X.2.2.1 X.2.2.2.1 dX4_init_215 (cat_rf _) k) ?_
  refine AW.lift (fun _ _ _ _ k => lv_bipush (pc := 216) (v := (22 : Int32)) X.2.2.1 X.2.2.2.1 dX4_init_216 rfl k) ?_
  refine AW.lift (fun _ _ _ _ k => lv_bipush (pc := 218) (v := (112 : Int32)) X.2.2.1 X.2.2.2.1 dX4_init_218 rfl k) ?_
  refine a_castore (pc := 220) X rfl dX4_init_220 hf (fun h hf => ?_)
  refine AW.lift (fun _ _ _ _ k => lv_dup (pc := 221) X.2.2.1 X.2.2.2.1 dX4_init_221 (cat_rf _) k) ?_
  refine AW.lift (fun _ _ _ _ k => lv_bipush (pc := 222) (v := (23 : Int32)) X.2.2.1 X.2.2.2.1 dX4_init_222 rfl k) ?_
  refine AW.lift (fun _ _ _ _ k => lv_bipush (pc := 224) (v := (97 : Int32)) X.2.2.1 X.2.2.2.1 dX4_init_224 rfl k) ?_
  refine a_castore (pc := 226) X rfl dX4_init_226 hf (fun h hf => ?_)
  refine AW.lift (fun _ _ _ _ k => lv_dup (pc := 227) X.2.2.1 X.2.2.2.1 dX4_init_227 (cat_rf _) k) ?_
  refine AW.lift (fun _ _ _ _ k => lv_bipush (pc := 228) (v := (24 : Int32)) X.2.2.1 X.2.2.2.1 dX4_init_228 rfl k) ?_
  refine AW.lift (fun _ _ _ _ k => lv_bipush (pc := 230) (v := (115 : Int32)) X.2.2.1 X.2.2.2.1 dX4_init_230 rfl k) ?_
  refine a_castore (pc := 232) X rfl dX4_init_232 hf (fun h hf => ?_)
  refine AW.lift (fun _ _ _ _ k => lv_dup (pc := 233) X.2.2.1 X.2.2.2.1 dX4_init_233 (cat_rf _) k) ?_
  refine AW.lift (fun _ _ _ _ k => lv_bipush (pc := 234) (v := (25 : Int32)) X.2.2.1 X.2.2.2.1 dX4_init_234 rfl k) ?_
  refine AW.lift (fun _ _ _ _ k => lv_bipush (pc := 236) (v := (115 : Int32)) X.2.2.1 X.2.2.2.1 dX4_init_236 rfl k) ?_
  refine a_castore (pc := 238) X rfl dX4_init_238 hf (fun h hf => ?_)
  refine a_putF (pc := 239) (φ := 117) X Z.1.2.1 Z.1.2.2.1 (gw X.1 X.2.1 q3042) (fun _ q => q) (by decide) rfl Z.2.2.2.2.1 rfl (fits_rf _ (Or.inr ⟨_, rfl⟩)) dX4_init_239 hf (fun h hf => ?_)
  refine a_aload_n (pc := 242) X dX4_init_242 rfl hl 0 rfl ?_
  refine AW.lift (fun _ _ _ _ k => lv_bipush (pc := 243) (v := (8 : Int32)) X.2.2.1 X.2.2.2.1 dX4_init_243 rfl k) ?_
  refine a_newarray (pc := 245) (t := 1001) (atype := .int) (by decide) rfl rfl rfl (by decide) (ra_int GA) X Z.1.2.2.2.1 Z.1.2.2.2.2.1 (gw X.1 X.2.1 q829) dX4_init_245 hf (fun x245 h hf => ?_)
  refine AW.lift (fun _ _ _ _ k => lv_dup (pc := 247) X.2.2.1 X.2.2.2.1 dX4_init_247 (cat_rf _) k) ?_
  refine AW.lift (fun _ _ _ _ k => lv_iconst (pc := 248) (v := (0 : Int32)) X.2.2.1 X.2.2.2.1 dX4_init_248 rfl k) ?_
  refine AW.lift (fun _ _ _ _ k => lv_iconst (pc := 249) (v := (0 : Int32)) X.2.2.1 X.2.2.2.1 dX4_init_249 rfl k) ?_
  refine a_iastore (pc := 250) X dX4_init_250 hf (fun h hf => ?_)
  refine AW.lift (fun _ _ _ _ k => lv_dup (pc := 251) X.2.2.1 X.2.2.2.1 dX4_init_251 (cat_rf _) k) ?_
  refine AW.lift (fun _ _ _ _ k => lv_iconst (pc := 252) (v := (1 : Int32)) X.2.2.1 X.2.2.2.1 dX4_init_252 rfl k) ?_
  refine AW.lift (fun _ _ _ _ k => lv_iconst (pc := 253) (v := (2 : Int32)) X.2.2.1 X.2.2.2.1 dX4_init_253 rfl k) ?_
  refine a_iastore (pc := 254) X dX4_init_254 hf (fun h hf => ?_)
  refine AW.lift (fun _ _ _ _ k => lv_dup (pc := 255) X.2.2.1 X.2.2.2.1 dX4_init_255 (cat_rf _) k) ?_
  refine AW.lift (fun _ _ _ _ k => lv_iconst (pc := 256) (v := (2 : Int32)) X.2.2.1 X.2.2.2.1 dX4_init_256 rfl k) ?_
  refine AW.lift (fun _ _ _ _ k => lv_bipush (pc := 257) (v := (6 : Int32)) X.2.2.1 X.2.2.2.1 dX4_init_257 rfl k) ?_
  refine a_iastore (pc := 259) X dX4_init_259 hf (fun h hf => ?_)
  refine AW.lift (fun _ _ _ _ k => lv_dup (pc := 260) X.2.2.1 X.2.2.2.1 dX4_init_260 (cat_rf _) k) ?_
  refine AW.lift (fun _ _ _ _ k => lv_iconst (pc := 261) (v := (3 : Int32)) X.2.2.1 X.2.2.2.1 dX4_init_261 rfl k) ?_
  refine AW.lift (fun _ _ _ _ k => lv_bipush (pc := 262) (v := (10 : Int32)) X.2.2.1 X.2.2.2.1 dX4_init_262 rfl k) ?_
  refine a_iastore (pc := 264) X dX4_init_264 hf (fun h hf => ?_)
  refine AW.lift (fun _ _ _ _ k => lv_dup (pc := 265) X.2.2.1 X.2.2.2.1 dX4_init_265 (cat_rf _) k) ?_
  refine AW.lift (fun _ _ _ _ k => lv_iconst (pc := 266) (v := (4 : Int32)) X.2.2.1 X.2.2.2.1 dX4_init_266 rfl k) ?_
  refine AW.lift (fun _ _ _ _ k => lv_bipush (pc := 267) (v := (15 : Int32)) X.2.2.1 X.2.2.2.1 dX4_init_267 rfl k) ?_
  refine a_iastore (pc := 269) X dX4_init_269 hf (fun h hf => ?_)
  refine AW.lift (fun _ _ _ _ k => lv_dup (pc := 270) X.2.2.1 X.2.2.2.1 dX4_init_270 (cat_rf _) k) ?_
  refine AW.lift (fun _ _ _ _ k => lv_iconst (pc := 271) (v := (5 : Int32)) X.2.2.1 X.2.2.2.1 dX4_init_271 rfl k) ?_
  refine AW.lift (fun _ _ _ _ k => lv_bipush (pc := 272) (v := (18 : Int32)) X.2.2.1 X.2.2.2.1 dX4_init_272 rfl k) ?_
  refine a_iastore (pc := 274) X dX4_init_274 hf (fun h hf => ?_)
  refine AW.lift (fun _ _ _ _ k => lv_dup (pc := 275) X.2.2.1 X.2.2.2.1 dX4_init_275 (cat_rf _) k) ?_
  refine AW.lift (fun _ _ _ _ k => lv_bipush (pc := 276) (v := (6 : Int32)) X.2.2.1 X.2.2.2.1 dX4_init_276 rfl k) ?_
  refine AW.lift (fun _ _ _ _ k => lv_bipush (pc := 278) (v := (22 : Int32)) X.2.2.1 X.2.2.2.1 dX4_init_278 rfl k) ?_
  refine a_iastore (pc := 280) X dX4_init_280 hf (fun h hf => ?_)
  refine AW.lift (fun _ _ _ _ k => lv_dup (pc := 281) X.2.2.1 X.2.2.2.1 dX4_init_281 (cat_rf _) k) ?_
  refine AW.lift (fun _ _ _ _ k => lv_bipush (pc := 282) (v := (7 : Int32)) X.2.2.1 X.2.2.2.1 dX4_init_282 rfl k) ?_
  refine AW.lift (fun _ _ _ _ k => lv_bipush (pc := 284) (v := (26 : Int32)) X.2.2.1 X.2.2.2.1 dX4_init_284 rfl k) ?_
  refine a_iastore (pc := 286) X dX4_init_286 hf (fun h hf => ?_)
  refine a_putF (pc := 287) (φ := 118) X Z.1.2.1 Z.1.2.2.1 (gw X.1 X.2.1 q3043) (fun _ q => q) (by decide) rfl Z.2.2.2.2.1 rfl (fits_rf _ (Or.inr ⟨_, rfl⟩)) dX4_init_287 hf (fun h hf => ?_)
  refine a_aload_n (pc := 290) X dX4_init_290 rfl hl 0 rfl ?_
  refine AW.lift (fun _ _ _ _ k => lv_bipush (pc := 291) (v := (7 : Int32)) X.2.2.1 X.2.2.2.1 dX4_init_291 rfl k) ?_
  refine a_newarray (pc := 293) (t := 1001) (atype := .int) (by decide) rfl rfl rfl (by decide) (ra_int GA) X Z.1.2.2.2.1 Z.1.2.2.2.2.1 (gw X.1 X.2.1 q829) dX4_init_293 hf (fun x293 h hf => ?_)
  refine AW.lift (fun _ _ _ _ k => lv_dup (pc := 295) X.2.2.1 X.2.2.2.1 dX4_init_295 (cat_rf _) k) ?_
  refine AW.lift (fun _ _ _ _ k => lv_iconst (pc := 296) (v := (0 : Int32)) X.2.2.1 X.2.2.2.1 dX4_init_296 rfl k) ?_
  refine AW.lift (fun _ _ _ _ k => lv_iconst (pc := 297) (v := (2 : Int32)) X.2.2.1 X.2.2.2.1 dX4_init_297 rfl k) ?_
  refine a_iastore (pc := 298) X dX4_init_298 hf (fun h hf => ?_)
  refine AW.lift (fun _ _ _ _ k => lv_dup (pc := 299) X.2.2.1 X.2.2.2.1 dX4_init_299 (cat_rf _) k) ?_
  refine AW.lift (fun _ _ _ _ k => lv_iconst (pc := 300) (v := (1 : Int32)) X.2.2.1 X.2.2.2.1 dX4_init_300 rfl k) ?_
  refine AW.lift (fun _ _ _ _ k => lv_iconst (pc := 301) (v := (1 : Int32)) X.2.2.1 X.2.2.2.1 dX4_init_301 rfl k) ?_
  refine a_iastore (pc := 302) X dX4_init_302 hf (fun h hf => ?_)
  refine AW.lift (fun _ _ _ _ k => lv_dup (pc := 303) X.2.2.1 X.2.2.2.1 dX4_init_303 (cat_rf _) k) ?_
  refine AW.lift (fun _ _ _ _ k => lv_iconst (pc := 304) (v := (2 : Int32)) X.2.2.1 X.2.2.2.1 dX4_init_304 rfl k) ?_
  refine AW.lift (fun _ _ _ _ k => lv_iconst (pc := 305) (v := (2 : Int32)) X.2.2.1 X.2.2.2.1 dX4_init_305 rfl k) ?_
  refine a_iastore (pc := 306) X dX4_init_306 hf (fun h hf => ?_)
  refine AW.lift (fun _ _ _ _ k => lv_dup (pc := 307) X.2.2.1 X.2.2.2.1 dX4_init_307 (cat_rf _) k) ?_
  refine AW.lift (fun _ _ _ _ k => lv_iconst (pc := 308) (v := (3 : Int32)) X.2.2.1 X.2.2.2.1 dX4_init_308 rfl k) ?_
  refine AW.lift (fun _ _ _ _ k => lv_iconst (pc := 309) (v := (2 : Int32)) X.2.2.1 X.2.2.2.1 dX4_init_309 rfl k) ?_
  refine a_iastore (pc := 310) X dX4_init_310 hf (fun h hf => ?_)
  refine AW.lift (fun _ _ _ _ k => lv_dup (pc := 311) X.2.2.1 X.2.2.2.1 dX4_init_311 (cat_rf _) k) ?_
  refine AW.lift (fun _ _ _ _ k => lv_iconst (pc := 312) (v := (4 : Int32)) X.2.2.1 X.2.2.2.1 dX4_init_312 rfl k) ?_
  refine AW.lift (fun _ _ _ _ k => lv_iconst (pc := 313) (v := (2 : Int32)) X.2.2.1 X.2.2.2.1 dX4_init_313 rfl k) ?_
  refine a_iastore (pc := 314) X dX4_init_314 hf (fun h hf => ?_)
  refine AW.lift (fun _ _ _ _ k => lv_dup (pc := 315) X.2.2.1 X.2.2.2.1 dX4_init_315 (cat_rf _) k) ?_
  refine AW.lift (fun _ _ _ _ k => lv_iconst (pc := 316) (v := (5 : Int32)) X.2.2.1 X.2.2.2.1 dX4_init_316 rfl k) ?_
  refine AW.lift (fun _ _ _ _ k => lv_iconst (pc := 317) (v := (1 : Int32)) X.2.2.1 X.2.2.2.1 dX4_init_317 rfl k) ?_
  refine a_iastore (pc := 318) X dX4_init_318 hf (fun h hf => ?_)
  refine AW.lift (fun _ _ _ _ k => lv_dup (pc := 319) X.2.2.1 X.2.2.2.1 dX4_init_319 (cat_rf _) k) ?_
  refine AW.lift (fun _ _ _ _ k => lv_bipush (pc := 320) (v := (6 : Int32)) X.2.2.1 X.2.2.2.1 dX4_init_320 rfl k) ?_
  refine AW.lift (fun _ _ _ _ k => lv_iconst (pc := 322) (v := (1 : Int32)) X.2.2.1 X.2.2.2.1 dX4_init_322 rfl k) ?_
  refine a_iastore (pc := 323) X dX4_init_323 hf (fun h hf => ?_)
  refine a_putF (pc := 324) (φ := 119) X Z.1.2.1 Z.1.2.2.1 (gw X.1 X.2.1 q3044) (fun _ q => q) (by decide) rfl Z.2.2.2.2.1 rfl (fits_rf _ (Or.inr ⟨_, rfl⟩)) dX4_init_324 hf (fun h hf => ?_)
  refine a_aload_n (pc := 327) X dX4_init_327 rfl hl 0 rfl ?_
  refine AW.lift (fun _ _ _ _ k => lv_sipush (pc := 328) (v := (183 : Int32)) X.2.2.1 X.2.2.2.1 dX4_init_328 rfl k) ?_
  refine a_newarray (pc := 331) (t := 1001) (atype := .int) (by decide) rfl rfl rfl (by decide) (ra_int GA) X Z.1.2.2.2.1 Z.1.2.2.2.2.1 (gw X.1 X.2.1 q829) dX4_init_331 hf (fun x331 h hf => ?_)
  refine a_putF (pc := 333) (φ := 120) X Z.1.2.1 Z.1.2.2.1 (gw X.1 X.2.1 q3045) (fun _ q => q) (by decide) rfl Z.2.2.2.2.1 rfl (fits_rf _ (Or.inr ⟨_, rfl⟩)) dX4_init_333 hf (fun h hf => ?_)
  exact a_return X Z.2.2.1 Z.2.2.2.1 dX4_init_336 hf
theorem np_J14_init : npar yJ14_init.desc 1 := by unfold npar; decide +kernel
theorem hy_J14_init : yJ14_init.cls ≠ "java/lang/invoke/MethodHandle" ∧ yJ14_init.cls ≠ "java/lang/invoke/VarHandle" := by decide +kernel
theorem w_J14_init (GA : GA l s0 a0 K lam) (v0 : Option Nat) (v1 : Option Nat) : AMet l s0 K lam yJ14_init (Cond.code yJ14_init cJ14_init (2 : Nat) (Option.none : Option ClassFile.FieldType)) 1 20 [vR v0, vR v1] oV (f_J14_init K v0 v1) := by
  refine AMet.of GA.1 (plainFor_of_name (by decide +kernel)) (Nat.le_of_ble_eq_true rfl) ?_
  intro b r hf p e s m args below meth c X hr hlk hnm hnd ht ls hl
  have Z : WZ l s0 a0 K p s m c cJ14_init yJ14_init.cls 2 b { frames := 1, cells := K 0 - aX b, slots := K 1 - aW b, locals := 20 } 1 20 meth [] none yJ14_init := ⟨⟨X, GA.2.1, GA.2.2.1, rfl, rfl, Nat.le_refl _, Nat.le_refl _⟩, tab_nil ht, hr, hlk, hnm, hnd⟩
  unfold f_J14_init at hf
  clear hr hlk hnm hnd ht
  refine a_aload_n (pc := 0) X dJ14_init_0 rfl hl 0 rfl ?_
  refine a_aload_n (pc := 1) X dJ14_init_1 rfl hl 1 rfl ?_
  refine a_putF (pc := 2) (φ := 2603) X Z.1.2.1 Z.1.2.2.1 (gw X.1 X.2.1 q357) (fun _ q => q) (by decide) rfl Z.2.2.2.2.1 rfl (fits_rf _ (Or.inl ⟨_, rfl⟩)) dJ14_init_2 hf (fun h hf => ?_)
  refine a_aload_n (pc := 5) X dJ14_init_5 rfl hl 0 rfl ?_
  obtain ⟨a6, rfl, hf⟩ := nz_some hf
  refine a_objInit (pc := 6) (rs := []) Z.1 q353 q144 q145 (by decide) (by decide) hl.1 (Nat.le_of_ble_eq_true rfl) dJ14_init_6 ?_
  refine AW.eq (g2 := F0 m 9 ls []) rfl ?_
  refine a_aload_n (pc := 9) X dJ14_init_9 rfl hl 0 rfl ?_
  refine AW.lift (fun _ _ _ _ k => lv_iconst (pc := 10) (v := (-1 : Int32)) X.2.2.1 X.2.2.2.1 dJ14_init_10 rfl k) ?_
  refine a_put (pc := 11) (φ := 2601) X Z.1.2.1 Z.1.2.2.1 (gw X.1 X.2.1 q355) (fun _ q => q) (by decide) rfl rfl dJ14_init_11 hf (fun h hf => ?_)
  refine a_aload_n (pc := 14) X dJ14_init_14 rfl hl 0 rfl ?_
  refine a_aload_n (pc := 15) X dJ14_init_15 rfl hl 0 rfl ?_
  refine a_get (pc := 16) (φ := 2603) pR_t X Z.1.2.1 (gw X.1 X.2.1 q357) (fun _ q => q) (by decide) dJ14_init_16 hf (fun x16 hf => ?_)
  refine a_get (pc := 19) (φ := 2400) pI_t X Z.1.2.1 (gw X.1 X.2.1 q171) (sameF (gw (args := args) X.1 X.2.1 q172)) (by decide) dJ14_init_19 hf (fun x19 hf => ?_)
  refine a_put (pc := 22) (φ := 2602) X Z.1.2.1 Z.1.2.2.1 (gw X.1 X.2.1 q356) (fun _ q => q) (by decide) rfl rfl dJ14_init_22 hf (fun h hf => ?_)
  exact a_return X Z.2.2.1 Z.2.2.2.1 dJ14_init_25 hf
theorem np_J2_iterator : npar yJ2_iterator.desc 0 := by unfold npar; decide +kernel
theorem hy_J2_iterator : yJ2_iterator.cls ≠ "java/lang/invoke/MethodHandle" ∧ yJ2_iterator.cls ≠ "java/lang/invoke/VarHandle" := by decide +kernel
theorem w_J2_iterator (GA : GA l s0 a0 K lam) (v0 : Option Nat) : AMet l s0 K lam yJ2_iterator (Cond.code yJ2_iterator cJ2_iterator (1 : Nat) (Option.some (ClassFile.FieldType.object "java/util/Iterator"))) 2 41 [vR v0] oR (f_J2_iterator K v0) := by
  refine AMet.of GA.1 (plainFor_of_name (by decide +kernel)) (Nat.le_of_ble_eq_true rfl) ?_
  intro b r hf p e s m args below meth c X hr hlk hnm hnd ht ls hl
  have Z : WZ l s0 a0 K p s m c cJ2_iterator yJ2_iterator.cls 1 b { frames := 2, cells := K 0 - aX b, slots := K 1 - aW b, locals := 41 } 2 41 meth [] (some (.object "java/util/Iterator")) yJ2_iterator := ⟨⟨X, GA.2.1, GA.2.2.1, rfl, rfl, Nat.le_refl _, Nat.le_refl _⟩, tab_nil ht, hr, hlk, hnm, hnd⟩
  unfold f_J2_iterator at hf
  clear hr hlk hnm hnd ht
  refine a_new (pc := 0) (cK := 26) (n := 4) X Z.1.2.1 Z.1.2.2.1 Z.1.2.2.2.1 Z.1.2.2.2.2.1 ⟨by decide, by decide, by decide⟩ (gw X.1 X.2.1 q348) (gw X.1 X.2.1 q349) (gw X.1 X.2.1 q96) dJ2_iterator_0 hf (fun x0 h hf => ?_)
  refine AW.lift (fun _ _ _ _ k => lv_dup (pc := 3) X.2.2.1 X.2.2.2.1 dJ2_iterator_3 (cat_rf _) k) ?_
  refine a_aload_n (pc := 4) X dJ2_iterator_4 rfl hl 0 rfl ?_
  refine a_callb (pc := 5) (rs := [vR (some x0)]) (avs := [vR (some x0), vR v0]) Z.1 (w_J14_init GA (some x0) v0) (Or.inl rfl) q352 q96 (by decide) (by decide) dJ2_iterator_5 hl.1 (Nat.le_of_ble_eq_true rfl) hf (ct_I X q352 q350 q351 rfl hy_J14_init np_J14_init rfl dJ2_iterator_5) (fun q h he hX => a_out (unc_of Z.2.1 rfl) Z.2.2.2.1 he hX) (fun _ h hf => ?kk5)
  refine AW.eq (g2 := F0 m 8 ls [va_rf (some x0)]) rfl ?_
  exact a_areturn X Z.2.2.1 (Or.inl ⟨_, rfl⟩) Z.2.2.2.1 dJ2_iterator_8 hf
theorem np_J14_hasNext : npar yJ14_hasNext.desc 0 := by unfold npar; decide +kernel
theorem hy_J14_hasNext : yJ14_hasNext.cls ≠ "java/lang/invoke/MethodHandle" ∧ yJ14_hasNext.cls ≠ "java/lang/invoke/VarHandle" := by decide +kernel
theorem w_J14_hasNext (GA : GA l s0 a0 K lam) (v0 : Option Nat) : AMet l s0 K lam yJ14_hasNext (Cond.code yJ14_hasNext cJ14_hasNext (1 : Nat) (Option.some ClassFile.FieldType.boolean)) 0 0 [vR v0] oI (f_J14_hasNext K v0) := by
  refine AMet.of GA.1 (plainFor_of_name (by decide +kernel)) (Nat.le_of_ble_eq_true rfl) ?_
  intro b r hf p e s m args below meth c X hr hlk hnm hnd ht ls hl
  have Z : WZ l s0 a0 K p s m c cJ14_hasNext yJ14_hasNext.cls 1 b { frames := 0, cells := K 0 - aX b, slots := K 1 - aW b, locals := 0 } 0 0 meth [] (some (.boolean)) yJ14_hasNext := ⟨⟨X, GA.2.1, GA.2.2.1, rfl, rfl, Nat.le_refl _, Nat.le_refl _⟩, tab_nil ht, hr, hlk, hnm, hnd⟩
  unfold f_J14_hasNext at hf
  clear hr hlk hnm hnd ht
  refine a_aload_n (pc := 0) X dJ14_hasNext_0 rfl hl 0 rfl ?_
  refine a_get (pc := 1) (φ := 2600) pI_t X Z.1.2.1 (gw X.1 X.2.1 q354) (fun _ q => q) (by decide) dJ14_hasNext_1 hf (fun x1 hf => ?_)
  refine a_aload_n (pc := 4) X dJ14_hasNext_4 rfl hl 0 rfl ?_
  refine a_get (pc := 5) (φ := 2603) pR_t X Z.1.2.1 (gw X.1 X.2.1 q357) (fun _ q => q) (by decide) dJ14_hasNext_5 hf (fun x5 hf => ?_)
  refine a_getN (pc := 8) (φ := 2501) pI_t X Z.1.2.1 (gnF X.1 X.2.1 q168) (fun _ q => q) (by decide) dJ14_hasNext_8 hf (fun x8 hf => ?_)
  refine AW.lift2 (fun _ _ _ _ k1 k2 => lv_icmp_eq (pc := 11) (tgt := 18) X.2.2.1 X.2.2.2.1 dJ14_hasNext_11 rfl k1 k2) (fun c => ?_) (fun c => ?_)
  · have hf := ite_t c hf
    refine AW.lift (fun _ _ _ _ k => lv_iconst (pc := 18) (v := (0 : Int32)) X.2.2.1 X.2.2.2.1 dJ14_hasNext_18 rfl k) ?_
    exact a_zreturn X Z.2.2.1 rfl Z.2.2.2.1 dJ14_hasNext_19 hf
  · have hf := ite_f c hf
    refine AW.lift (fun _ _ _ _ k => lv_iconst (pc := 14) (v := (1 : Int32)) X.2.2.1 X.2.2.2.1 dJ14_hasNext_14 rfl k) ?_
    refine AW.lift (fun _ _ _ _ k => lv_goto (pc := 15) (tgt := 19) X.2.2.1 X.2.2.2.1 dJ14_hasNext_15 rfl k) ?_
    exact a_zreturn X Z.2.2.1 rfl Z.2.2.2.1 dJ14_hasNext_19 hf
theorem np_J14_checkForComodification : npar yJ14_checkForComodification.desc 0 := by unfold npar; decide +kernel
theorem hy_J14_checkForComodification : yJ14_checkForComodification.cls ≠ "java/lang/invoke/MethodHandle" ∧ yJ14_checkForComodification.cls ≠ "java/lang/invoke/VarHandle" := by decide +kernel
theorem w_J14_checkForComodification (GA : GA l s0 a0 K lam) (v0 : Option Nat) : AMet l s0 K lam yJ14_checkForComodification (Cond.code yJ14_checkForComodification cJ14_checkForComodification (1 : Nat) (Option.none : Option ClassFile.FieldType)) 0 0 [vR v0] oV (f_J14_checkForComodification K v0) := by
  refine AMet.of GA.1 (plainFor_of_name (by decide +kernel)) (Nat.le_of_ble_eq_true rfl) ?_
  intro b r hf p e s m args below meth c X hr hlk hnm hnd ht ls hl
  have Z : WZ l s0 a0 K p s m c cJ14_checkForComodification yJ14_checkForComodification.cls 1 b { frames := 0, cells := K 0 - aX b, slots := K 1 - aW b, locals := 0 } 0 0 meth [] none yJ14_checkForComodification := ⟨⟨X, GA.2.1, GA.2.2.1, rfl, rfl, Nat.le_refl _, Nat.le_refl _⟩, tab_nil ht, hr, hlk, hnm, hnd⟩
  unfold f_J14_checkForComodification at hf
  clear hr hlk hnm hnd ht
  refine a_aload_n (pc := 0) X dJ14_checkForComodification_0 rfl hl 0 rfl ?_
  refine a_get (pc := 1) (φ := 2603) pR_t X Z.1.2.1 (gw X.1 X.2.1 q357) (fun _ q => q) (by decide) dJ14_checkForComodification_1 hf (fun x1 hf => ?_)
  refine a_get (pc := 4) (φ := 2400) pI_t X Z.1.2.1 (gw X.1 X.2.1 q171) (sameF (gw (args := args) X.1 X.2.1 q172)) (by decide) dJ14_checkForComodification_4 hf (fun x4 hf => ?_)
  refine a_aload_n (pc := 7) X dJ14_checkForComodification_7 rfl hl 0 rfl ?_
  refine a_get (pc := 8) (φ := 2602) pI_t X Z.1.2.1 (gw X.1 X.2.1 q356) (fun _ q => q) (by decide) dJ14_checkForComodification_8 hf (fun x8 hf => ?_)
  refine AW.lift2 (fun _ _ _ _ k1 k2 => lv_icmp_eq (pc := 11) (tgt := 22) X.2.2.1 X.2.2.2.1 dJ14_checkForComodification_11 rfl k1 k2) (fun c => ?_) (fun c => ?_)
  · have hf := ite_t c hf
    exact a_return X Z.2.2.1 Z.2.2.2.1 dJ14_checkForComodification_22 hf
  · have hf := ite_f c hf
    exact fl_no hf
theorem np_J9_init : npar yJ9_init.desc 0 := by unfold npar; decide +kernel
theorem hy_J9_init : yJ9_init.cls ≠ "java/lang/invoke/MethodHandle" ∧ yJ9_init.cls ≠ "java/lang/invoke/VarHandle" := by decide +kernel
theorem w_J9_init (GA : GA l s0 a0 K lam) (v0 : Option Nat) : AMet l s0 K lam yJ9_init (Cond.code yJ9_init cJ9_init (1 : Nat) (Option.none : Option ClassFile.FieldType)) 4 320 [vR v0] oV (f_J9_init K v0) := by
  refine AMet.of GA.1 (plainFor_of_name (by decide +kernel)) (Nat.le_of_ble_eq_true rfl) ?_
  intro b r hf p e s m args below meth c X hr hlk hnm hnd ht ls hl
  have Z : WZ l s0 a0 K p s m c cJ9_init yJ9_init.cls 1 b { frames := 4, cells := K 0 - aX b, slots := K 1 - aW b, locals := 320 } 4 320 meth [] none yJ9_init := ⟨⟨X, GA.2.1, GA.2.2.1, rfl, rfl, Nat.le_refl _, Nat.le_refl _⟩, tab_nil ht, hr, hlk, hnm, hnd⟩
  unfold f_J9_init at hf
  clear hr hlk hnm hnd ht
  refine a_aload_n (pc := 0) X dJ9_init_0 rfl hl 0 rfl ?_
  obtain ⟨a1, rfl, hf⟩ := nz_some hf
  refine a_objInit (pc := 1) (rs := []) Z.1 q427 q144 q145 (by decide) (by decide) hl.1 (Nat.le_of_ble_eq_true rfl) dJ9_init_1 ?_
  refine AW.eq (g2 := F0 m 4 ls []) rfl ?_
  refine a_aload_n (pc := 4) X dJ9_init_4 rfl hl 0 rfl ?_
  refine a_aload_n (pc := 5) X dJ9_init_5 rfl hl 0 rfl ?_
  refine a_put (pc := 6) (φ := 1500) X Z.1.2.1 Z.1.2.2.1 (gw X.1 X.2.1 q463) (fun _ q => q) (by decide) rfl (fits_rf _ (Or.inl ⟨_, rfl⟩)) dJ9_init_6 hf (fun h hf => ?_)
  refine a_aload_n (pc := 9) X dJ9_init_9 rfl hl 0 rfl ?_
  refine a_getstatic (pc := 10) (v := va_rf (kO (K 4))) X (st_UNASSIGNED_STACK GA) (gw X.1 X.2.1 q428) (fun _ q => q) dJ9_init_10 ?_
  refine a_put (pc := 13) (φ := 1501) X Z.1.2.1 Z.1.2.2.1 (gw X.1 X.2.1 q464) (fun _ q => q) (by decide) rfl (fits_rf _ (Or.inr ⟨_, rfl⟩)) dJ9_init_13 hf (fun h hf => ?_)
  refine a_aload_n (pc := 16) X dJ9_init_16 rfl hl 0 rfl ?_
  refine a_getstatic (pc := 17) (v := va_rf (kO (K 5))) X (st_SUPPRESSED_SENTINEL GA) (gw X.1 X.2.1 q430) (fun _ q => q) dJ9_init_17 ?_
  refine a_put (pc := 20) (φ := 1502) X Z.1.2.1 Z.1.2.2.1 (gw X.1 X.2.1 q465) (fun _ q => q) (by decide) rfl (fits_rf _ (Or.inl ⟨_, rfl⟩)) dJ9_init_20 hf (fun h hf => ?_)
  refine a_aload_n (pc := 23) X dJ9_init_23 rfl hl 0 rfl ?_
  refine' a_virt hf ?kv24 ?cs24
  case cs24 =>
    intro hf kk
    rcases dv_someS hf with ⟨hk, hf⟩ | ⟨-, hf⟩
    · refine a_callb (pc := 24) (rs := []) (avs := [vR (some a1)]) Z.1 (w_T_fill GA (some a1)) (Or.inr (Or.inr rfl)) q445 q87 (by decide) (by decide) dJ9_init_24 hl.1 (Nat.le_of_ble_eq_true rfl) hf (ct_V hk ⟨by decide, by decide⟩ X (Or.inr (Or.inr rfl)) q445 q432 q433 q437 hy_T_fill np_T_fill rfl dJ9_init_24) (fun q h he hX => a_out (unc_of Z.2.1 rfl) Z.2.2.2.1 he hX) (fun v h hf => kk v h hf)
    rcases dv_someS hf with ⟨hk, hf⟩ | ⟨-, hf⟩
    · refine a_callb (pc := 24) (rs := []) (avs := [vR (some a1)]) Z.1 (w_T_fill GA (some a1)) (Or.inr (Or.inr rfl)) q445 q87 (by decide) (by decide) dJ9_init_24 hl.1 (Nat.le_of_ble_eq_true rfl) hf (ct_V hk ⟨by decide, by decide⟩ X (Or.inr (Or.inr rfl)) q445 q432 q433 q436 hy_T_fill np_T_fill rfl dJ9_init_24) (fun q h he hX => a_out (unc_of Z.2.1 rfl) Z.2.2.2.1 he hX) (fun v h hf => kk v h hf)
    exact fl_none hf
  case kv24 =>
  intro x24 h hf
  refine AW.eq (g2 := F0 m 27 ls [va_rf x24]) rfl ?_
  refine AW.lift (fun _ _ _ _ k => lv_pop (pc := 27) X.2.2.1 X.2.2.2.1 dJ9_init_27 (cat_rf _) k) ?_
  exact a_return X Z.2.2.1 Z.2.2.2.1 dJ9_init_28 hf
theorem np_J10_init : npar yJ10_init.desc 0 := by unfold npar; decide +kernel
theorem hy_J10_init : yJ10_init.cls ≠ "java/lang/invoke/MethodHandle" ∧ yJ10_init.cls ≠ "java/lang/invoke/VarHandle" := by decide +kernel
theorem w_J10_init (GA : GA l s0 a0 K lam) (v0 : Option Nat) : AMet l s0 K lam yJ10_init (Cond.code yJ10_init cJ10_init (1 : Nat) (Option.none : Option ClassFile.FieldType)) 5 340 [vR v0] oV (f_J10_init K v0) := by
  refine AMet.of GA.1 (plainFor_of_name (by decide +kernel)) (Nat.le_of_ble_eq_true rfl) ?_
  intro b r hf p e s m args below meth c X hr hlk hnm hnd ht ls hl
  have Z : WZ l s0 a0 K p s m c cJ10_init yJ10_init.cls 1 b { frames := 5, cells := K 0 - aX b, slots := K 1 - aW b, locals := 340 } 5 340 meth [] none yJ10_init := ⟨⟨X, GA.2.1, GA.2.2.1, rfl, rfl, Nat.le_refl _, Nat.le_refl _⟩, tab_nil ht, hr, hlk, hnm, hnd⟩
  unfold f_J10_init at hf
  clear hr hlk hnm hnd ht
  refine a_aload_n (pc := 0) X dJ10_init_0 rfl hl 0 rfl ?_
  obtain ⟨a1, rfl, hf⟩ := nz_some hf
  refine a_callb (pc := 1) (rs := []) (avs := [vR (some a1)]) Z.1 (w_J9_init GA (some a1)) (Or.inl rfl) q426 q87 (by decide) (by decide) dJ10_init_1 hl.1 (Nat.le_of_ble_eq_true rfl) hf (ct_I X q426 q460 q425 rfl hy_J9_init np_J9_init rfl dJ10_init_1) (fun q h he hX => a_out (unc_of Z.2.1 rfl) Z.2.2.2.1 he hX) (fun _ h hf => ?kk1)
  refine AW.eq (g2 := F0 m 4 ls []) rfl ?_
  exact a_return X Z.2.2.1 Z.2.2.2.1 dJ10_init_4 hf
theorem np_J15_init : npar yJ15_init.desc 0 := by unfold npar; decide +kernel
theorem hy_J15_init : yJ15_init.cls ≠ "java/lang/invoke/MethodHandle" ∧ yJ15_init.cls ≠ "java/lang/invoke/VarHandle" := by decide +kernel
theorem w_J15_init (GA : GA l s0 a0 K lam) (v0 : Option Nat) : AMet l s0 K lam yJ15_init (Cond.code yJ15_init cJ15_init (1 : Nat) (Option.none : Option ClassFile.FieldType)) 6 360 [vR v0] oV (f_J15_init K v0) := by
  refine AMet.of GA.1 (plainFor_of_name (by decide +kernel)) (Nat.le_of_ble_eq_true rfl) ?_
  intro b r hf p e s m args below meth c X hr hlk hnm hnd ht ls hl
  have Z : WZ l s0 a0 K p s m c cJ15_init yJ15_init.cls 1 b { frames := 6, cells := K 0 - aX b, slots := K 1 - aW b, locals := 360 } 6 360 meth [] none yJ15_init := ⟨⟨X, GA.2.1, GA.2.2.1, rfl, rfl, Nat.le_refl _, Nat.le_refl _⟩, tab_nil ht, hr, hlk, hnm, hnd⟩
  unfold f_J15_init at hf
  clear hr hlk hnm hnd ht
  refine a_aload_n (pc := 0) X dJ15_init_0 rfl hl 0 rfl ?_
  obtain ⟨a1, rfl, hf⟩ := nz_some hf
  refine a_callb (pc := 1) (rs := []) (avs := [vR (some a1)]) Z.1 (w_J10_init GA (some a1)) (Or.inl rfl) q459 q88 (by decide) (by decide) dJ15_init_1 hl.1 (Nat.le_of_ble_eq_true rfl) hf (ct_I X q459 q457 q458 rfl hy_J10_init np_J10_init rfl dJ15_init_1) (fun q h he hX => a_out (unc_of Z.2.1 rfl) Z.2.2.2.1 he hX) (fun _ h hf => ?kk1)
  refine AW.eq (g2 := F0 m 4 ls []) rfl ?_
  exact a_return X Z.2.2.1 Z.2.2.2.1 dJ15_init_4 hf
theorem np_J16_init : npar yJ16_init.desc 0 := by unfold npar; decide +kernel
theorem hy_J16_init : yJ16_init.cls ≠ "java/lang/invoke/MethodHandle" ∧ yJ16_init.cls ≠ "java/lang/invoke/VarHandle" := by decide +kernel
theorem w_J16_init (GA : GA l s0 a0 K lam) (v0 : Option Nat) : AMet l s0 K lam yJ16_init (Cond.code yJ16_init cJ16_init (1 : Nat) (Option.none : Option ClassFile.FieldType)) 7 380 [vR v0] oV (f_J16_init K v0) := by
  refine AMet.of GA.1 (plainFor_of_name (by decide +kernel)) (Nat.le_of_ble_eq_true rfl) ?_
  intro b r hf p e s m args below meth c X hr hlk hnm hnd ht ls hl
  have Z : WZ l s0 a0 K p s m c cJ16_init yJ16_init.cls 1 b { frames := 7, cells := K 0 - aX b, slots := K 1 - aW b, locals := 380 } 7 380 meth [] none yJ16_init := ⟨⟨X, GA.2.1, GA.2.2.1, rfl, rfl, Nat.le_refl _, Nat.le_refl _⟩, tab_nil ht, hr, hlk, hnm, hnd⟩
  unfold f_J16_init at hf
  clear hr hlk hnm hnd ht
  refine a_aload_n (pc := 0) X dJ16_init_0 rfl hl 0 rfl ?_
  obtain ⟨a1, rfl, hf⟩ := nz_some hf
  refine a_callb (pc := 1) (rs := []) (avs := [vR (some a1)]) Z.1 (w_J15_init GA (some a1)) (Or.inl rfl) q456 q97 (by decide) (by decide) dJ16_init_1 hl.1 (Nat.le_of_ble_eq_true rfl) hf (ct_I X q456 q454 q455 rfl hy_J15_init np_J15_init rfl dJ16_init_1) (fun q h he hX => a_out (unc_of Z.2.1 rfl) Z.2.2.2.1 he hX) (fun _ h hf => ?kk1)
  refine AW.eq (g2 := F0 m 4 ls []) rfl ?_
  exact a_return X Z.2.2.1 Z.2.2.2.1 dJ16_init_4 hf
theorem np_J14_next : npar yJ14_next.desc 0 := by unfold npar; decide +kernel
theorem hy_J14_next : yJ14_next.cls ≠ "java/lang/invoke/MethodHandle" ∧ yJ14_next.cls ≠ "java/lang/invoke/VarHandle" := by decide +kernel
theorem w_J14_next (GA : GA l s0 a0 K lam) (v0 : Option Nat) : AMet l s0 K lam yJ14_next (Cond.code yJ14_next cJ14_next (3 : Nat) (Option.some (ClassFile.FieldType.object "java/lang/Object"))) 8 400 [vR v0] oR (f_J14_next K v0) := by
  refine AMet.of GA.1 (plainFor_of_name (by decide +kernel)) (Nat.le_of_ble_eq_true rfl) ?_
  intro b r hf p e s m args below meth c X hr hlk hnm hnd ht ls hl
  have Z : WZ l s0 a0 K p s m c cJ14_next yJ14_next.cls 3 b { frames := 8, cells := K 0 - aX b, slots := K 1 - aW b, locals := 400 } 8 400 meth [] (some (.object "java/lang/Object")) yJ14_next := ⟨⟨X, GA.2.1, GA.2.2.1, rfl, rfl, Nat.le_refl _, Nat.le_refl _⟩, tab_nil ht, hr, hlk, hnm, hnd⟩
  unfold f_J14_next at hf
  clear hr hlk hnm hnd ht
  refine a_aload_n (pc := 0) X dJ14_next_0 rfl hl 0 rfl ?_
  obtain ⟨a1, rfl, ⟨hk, hf⟩ | ⟨-, hf⟩⟩ := dv_some hf
  rotate_left
  · exact fl_none hf
  refine a_callb (pc := 1) (rs := []) (avs := [vR (some a1)]) Z.1 (w_J14_checkForComodification GA (some a1)) (Or.inl rfl) q401 q96 (by decide) (by decide) dJ14_next_1 hl.1 (Nat.le_of_ble_eq_true rfl) hf (ct_V hk ⟨by decide, by decide⟩ X (Or.inl rfl) q401 q398 q399 q400 hy_J14_checkForComodification np_J14_checkForComodification rfl dJ14_next_1) (fun q h he hX => a_out (unc_of Z.2.1 rfl) Z.2.2.2.1 he hX) (fun _ h hf => ?kk1)
  refine AW.eq (g2 := F0 m 4 ls []) rfl ?_
  refine a_aload_n (pc := 4) X dJ14_next_4 rfl hl 0 rfl ?_
  refine a_get (pc := 5) (φ := 2600) pI_t X Z.1.2.1 (gw X.1 X.2.1 q354) (fun _ q => q) (by decide) dJ14_next_5 hf (fun x5 hf => ?_)
  refine a_istore_n (pc := 8) X dJ14_next_8 rfl hl (by decide) (lv' := [(1, vI x5), (0, vR (some a1))]) rfl (fun ls hl => ?_)
  refine a_iload_n (pc := 9) X dJ14_next_9 rfl hl 0 rfl ?_
  refine a_aload_n (pc := 10) X dJ14_next_10 rfl hl 1 rfl ?_
  refine a_get (pc := 11) (φ := 2603) pR_t X Z.1.2.1 (gw X.1 X.2.1 q357) (fun _ q => q) (by decide) dJ14_next_11 hf (fun x11 hf => ?_)
  refine a_getN (pc := 14) (φ := 2501) pI_t X Z.1.2.1 (gnF X.1 X.2.1 q168) (fun _ q => q) (by decide) dJ14_next_14 hf (fun x14 hf => ?_)
  refine AW.lift2 (fun _ _ _ _ k1 k2 => lv_icmp_lt (pc := 17) (tgt := 28) X.2.2.1 X.2.2.2.1 dJ14_next_17 rfl k1 k2) (fun c => ?_) (fun c => ?_)
  · have hf := ite_t c hf
    refine a_aload_n (pc := 28) X dJ14_next_28 rfl hl 1 rfl ?_
    refine a_get (pc := 29) (φ := 2603) pR_t X Z.1.2.1 (gw X.1 X.2.1 q357) (fun _ q => q) (by decide) dJ14_next_29 hf (fun x29 hf => ?_)
    refine a_get (pc := 32) (φ := 2500) pR_t X Z.1.2.1 (gw X.1 X.2.1 q167) (fun _ q => q) (by decide) dJ14_next_32 hf (fun x32 hf => ?_)
    refine a_astore_n (pc := 35) X dJ14_next_35 rfl hl (by decide) (lv' := [(2, vR x32), (1, vI x5), (0, vR (some a1))]) rfl (fun ls hl => ?_)
    refine a_iload_n (pc := 36) X dJ14_next_36 rfl hl 1 rfl ?_
    refine a_aload_n (pc := 37) X dJ14_next_37 rfl hl 0 rfl ?_
    refine a_arraylength (pc := 38) X dJ14_next_38 hf (fun x38 hf => ?_)
    refine AW.lift2 (fun _ _ _ _ k1 k2 => lv_icmp_lt (pc := 39) (tgt := 50) X.2.2.1 X.2.2.2.1 dJ14_next_39 rfl k1 k2) (fun c => ?_) (fun c => ?_)
    · have hf := ite_t c hf
      refine a_aload_n (pc := 50) X dJ14_next_50 rfl hl 2 rfl ?_
      refine a_iload_n (pc := 51) X dJ14_next_51 rfl hl 1 rfl ?_
      refine AW.lift (fun _ _ _ _ k => lv_iconst (pc := 52) (v := (1 : Int32)) X.2.2.1 X.2.2.2.1 dJ14_next_52 rfl k) ?_
      refine AW.lift (fun _ _ _ _ k => lv_iadd (pc := 53) X.2.2.1 X.2.2.2.1 dJ14_next_53 k) ?_
      refine a_put (pc := 54) (φ := 2600) X Z.1.2.1 Z.1.2.2.1 (gw X.1 X.2.1 q354) (fun _ q => q) (by decide) rfl rfl dJ14_next_54 hf (fun h hf => ?_)
      refine a_aload_n (pc := 57) X dJ14_next_57 rfl hl 0 rfl ?_
      refine a_aload_n (pc := 58) X dJ14_next_58 rfl hl 2 rfl ?_
      refine a_iload_n (pc := 59) X dJ14_next_59 rfl hl 1 rfl ?_
      refine AW.lift (fun _ _ _ _ k => lv_dup_x1 (pc := 60) X.2.2.1 X.2.2.2.1 dJ14_next_60 rfl (cat_rf _) k) ?_
      refine a_put (pc := 61) (φ := 2601) X Z.1.2.1 Z.1.2.2.1 (gw X.1 X.2.1 q355) (fun _ q => q) (by decide) rfl rfl dJ14_next_61 hf (fun h hf => ?_)
      refine a_aaload (pc := 64) (t := 1006) (by decide) rfl X dJ14_next_64 hf (fun x64 hf => ?_)
      exact a_areturn X Z.2.2.1 (Or.inl ⟨_, rfl⟩) Z.2.2.2.1 dJ14_next_65 hf
    · have hf := ite_f c hf
      exact fl_no hf
  · have hf := ite_f c hf
    refine a_new (pc := 20) (cK := 20) (n := 6) X Z.1.2.1 Z.1.2.2.1 Z.1.2.2.2.1 Z.1.2.2.2.2.1 ⟨by decide, by decide, by decide⟩ (gw X.1 X.2.1 q402) (gw X.1 X.2.1 q403) (gw X.1 X.2.1 q98) dJ14_next_20 hf (fun x20 h hf => ?_)
    refine AW.lift (fun _ _ _ _ k => lv_dup (pc := 23) X.2.2.1 X.2.2.2.1 dJ14_next_23 (cat_rf _) k) ?_
    refine a_callb (pc := 24) (rs := [vR (some x20)]) (avs := [vR (some x20)]) Z.1 (w_J16_init GA (some x20)) (Or.inl rfl) q453 q98 (by decide) (by decide) dJ14_next_24 hl.1 (Nat.le_of_ble_eq_true rfl) hf (ct_I X q453 q451 q452 rfl hy_J16_init np_J16_init rfl dJ14_next_24) (fun q h he hX => a_out (unc_of Z.2.1 rfl) Z.2.2.2.1 he hX) (fun _ h hf => ?kk24)
    refine AW.eq (g2 := F0 m 27 ls [va_rf (some x20)]) rfl ?_
    exact a_athrow X dJ14_next_27 hf (fun q e he hX => a_out (unc_of Z.2.1 rfl) Z.2.2.2.1 he hX)
theorem np_X7_init : npar yX7_init.desc 0 := by unfold npar; decide +kernel
theorem hy_X7_init : yX7_init.cls ≠ "java/lang/invoke/MethodHandle" ∧ yX7_init.cls ≠ "java/lang/invoke/VarHandle" := by decide +kernel
theorem w_X7_init (GA : GA l s0 a0 K lam) (v0 : Option Nat) : AMet l s0 K lam yX7_init (Cond.code yX7_init cX7_init (1 : Nat) (Option.none : Option ClassFile.FieldType)) 1 20 [vR v0] oV (f_X7_init K v0) := by
  refine AMet.of GA.1 (plainFor_of_name (by decide +kernel)) (Nat.le_of_ble_eq_true rfl) ?_
  intro b r hf p e s m args below meth c X hr hlk hnm hnd ht ls hl
  have Z : WZ l s0 a0 K p s m c cX7_init yX7_init.cls 1 b { frames := 1, cells := K 0 - aX b, slots := K 1 - aW b, locals := 20 } 1 20 meth [] none yX7_init := ⟨⟨X, GA.2.1, GA.2.2.1, rfl, rfl, Nat.le_refl _, Nat.le_refl _⟩, tab_nil ht, hr, hlk, hnm, hnd⟩
  unfold f_X7_init at hf
  clear hr hlk hnm hnd ht
  refine a_aload_n (pc := 0) X dX7_init_0 rfl hl 0 rfl ?_
  obtain ⟨a1, rfl, hf⟩ := nz_some hf
  refine a_objInit (pc := 1) (rs := []) Z.1 q812 q144 q145 (by decide) (by decide) hl.1 (Nat.le_of_ble_eq_true rfl) dX7_init_1 ?_
  refine AW.eq (g2 := F0 m 4 ls []) rfl ?_
  refine a_aload_n (pc := 4) X dX7_init_4 rfl hl 0 rfl ?_
  refine AW.lift (fun _ _ _ _ k => lv_bipush (pc := 5) (v := (8 : Int32)) X.2.2.1 X.2.2.2.1 dX7_init_5 rfl k) ?_
  refine a_newarray (pc := 7) (t := 1001) (atype := .int) (by decide) rfl rfl rfl (by decide) (ra_int GA) X Z.1.2.2.2.1 Z.1.2.2.2.2.1 (gw X.1 X.2.1 q829) dX7_init_7 hf (fun x7 h hf => ?_)
  refine a_putF (pc := 9) (φ := 400) X Z.1.2.1 Z.1.2.2.1 (gw X.1 X.2.1 q813) (fun _ q => q) (by decide) rfl Z.2.2.2.2.1 rfl (fits_rf _ (Or.inr ⟨_, rfl⟩)) dX7_init_9 hf (fun h hf => ?_)
  exact a_return X Z.2.2.1 Z.2.2.2.1 dX7_init_12 hf
theorem np_X7_copy : npar yX7_copy.desc 0 := by unfold npar; decide +kernel
theorem hy_X7_copy : yX7_copy.cls ≠ "java/lang/invoke/MethodHandle" ∧ yX7_copy.cls ≠ "java/lang/invoke/VarHandle" := by decide +kernel
theorem w_X7_copy (GA : GA l s0 a0 K lam) (v0 : Option Nat) : AMet l s0 K lam yX7_copy (Cond.code yX7_copy cX7_copy (2 : Nat) (Option.some (ClassFile.FieldType.object "JumpHall$Mat"))) 2 48 [vR v0] oR (f_X7_copy K v0) := by
  refine AMet.of GA.1 (plainFor_of_name (by decide +kernel)) (Nat.le_of_ble_eq_true rfl) ?_
  intro b r hf p e s m args below meth c X hr hlk hnm hnd ht ls hl
  have Z : WZ l s0 a0 K p s m c cX7_copy yX7_copy.cls 2 b { frames := 2, cells := K 0 - aX b, slots := K 1 - aW b, locals := 48 } 2 48 meth [] (some (.object "JumpHall$Mat")) yX7_copy := ⟨⟨X, GA.2.1, GA.2.2.1, rfl, rfl, Nat.le_refl _, Nat.le_refl _⟩, tab_nil ht, hr, hlk, hnm, hnd⟩
  unfold f_X7_copy at hf
  clear hr hlk hnm hnd ht
  refine a_new (pc := 0) (cK := 4) (n := 3) X Z.1.2.1 Z.1.2.2.1 Z.1.2.2.2.1 Z.1.2.2.2.2.1 ⟨by decide, by decide, by decide⟩ (gw X.1 X.2.1 q807) (gw X.1 X.2.1 q808) (gw X.1 X.2.1 q91) dX7_copy_0 hf (fun x0 h hf => ?_)
  refine AW.lift (fun _ _ _ _ k => lv_dup (pc := 3) X.2.2.1 X.2.2.2.1 dX7_copy_3 (cat_rf _) k) ?_
  refine a_callb (pc := 4) (rs := [vR (some x0)]) (avs := [vR (some x0)]) Z.1 (w_X7_init GA (some x0)) (Or.inl rfl) q811 q91 (by decide) (by decide) dX7_copy_4 hl.1 (Nat.le_of_ble_eq_true rfl) hf (ct_I X q811 q809 q810 rfl hy_X7_init np_X7_init rfl dX7_copy_4) (fun q h he hX => a_out (unc_of Z.2.1 rfl) Z.2.2.2.1 he hX) (fun _ h hf => ?kk4)
  refine AW.eq (g2 := F0 m 7 ls [va_rf (some x0)]) rfl ?_
  refine a_astore_n (pc := 7) X dX7_copy_7 rfl hl (by decide) (lv' := [(1, vR (some x0)), (0, vR v0)]) rfl (fun ls hl => ?_)
  refine a_aload_n (pc := 8) X dX7_copy_8 rfl hl 1 rfl ?_
  refine a_get (pc := 9) (φ := 400) pR_t X Z.1.2.1 (gw X.1 X.2.1 q813) (fun _ q => q) (by decide) dX7_copy_9 hf (fun x9 hf => ?_)
  refine AW.lift (fun _ _ _ _ k => lv_iconst (pc := 12) (v := (0 : Int32)) X.2.2.1 X.2.2.2.1 dX7_copy_12 rfl k) ?_
  refine a_aload_n (pc := 13) X dX7_copy_13 rfl hl 0 rfl ?_
  refine a_get (pc := 14) (φ := 400) pR_t X Z.1.2.1 (gw X.1 X.2.1 q813) (fun _ q => q) (by decide) dX7_copy_14 hf (fun x14 hf => ?_)
  refine AW.lift (fun _ _ _ _ k => lv_iconst (pc := 17) (v := (0 : Int32)) X.2.2.1 X.2.2.2.1 dX7_copy_17 rfl k) ?_
  refine AW.lift (fun _ _ _ _ k => lv_bipush (pc := 18) (v := (8 : Int32)) X.2.2.1 X.2.2.2.1 dX7_copy_18 rfl k) ?_
  refine a_acp (pc := 20) (rs := []) Z.1 q830 q587 q586 q95 (by decide) (by decide) hl.1 (Nat.le_of_ble_eq_true rfl) (by decide) dX7_copy_20 hf (fun h hf => ?_)
  refine AW.eq (g2 := F0 m 23 ls []) rfl ?_
  refine a_aload_n (pc := 23) X dX7_copy_23 rfl hl 0 rfl ?_
  refine a_aload_n (pc := 24) X dX7_copy_24 rfl hl 1 rfl ?_
  refine a_get (pc := 25) (φ := 401) pI_t X Z.1.2.1 (gw X.1 X.2.1 q816) (fun _ q => q) (by decide) dX7_copy_25 hf (fun x25 hf => ?_)
  obtain ⟨hg, hf⟩ := chk_some hf
  refine a_put (pc := 28) (φ := 401) X Z.1.2.1 Z.1.2.2.1 (gw X.1 X.2.1 q816) (fun _ q => q) (by decide) rfl hg dX7_copy_28 hf (fun h hf => ?_)
  refine a_aload_n (pc := 31) X dX7_copy_31 rfl hl 0 rfl ?_
  refine a_aload_n (pc := 32) X dX7_copy_32 rfl hl 1 rfl ?_
  refine a_get (pc := 33) (φ := 402) pI_t X Z.1.2.1 (gw X.1 X.2.1 q819) (fun _ q => q) (by decide) dX7_copy_33 hf (fun x33 hf => ?_)
  refine a_put (pc := 36) (φ := 402) X Z.1.2.1 Z.1.2.2.1 (gw X.1 X.2.1 q819) (fun _ q => q) (by decide) rfl rfl dX7_copy_36 hf (fun h hf => ?_)
  refine a_aload_n (pc := 39) X dX7_copy_39 rfl hl 0 rfl ?_
  exact a_areturn X Z.2.2.1 (Or.inl ⟨_, rfl⟩) Z.2.2.2.1 dX7_copy_40 hf
theorem w_J11_newLength_j21 {r : Except Nat (Int32) × AH} (GA : GA l s0 a0 K lam) (Z : WZ l s0 a0 K p s m c cJ11_newLength yJ11_newLength.cls 4 b R 1 29 meth [] (some (.int)) yJ11_newLength) (v0 : Int32) (v1 : Int32)   {h : AH} {ls : Array Slot} (hl : LV ls 4 [(0, vI v0), (1, vI v1)]) (hf : f_J11_newLength_j21 K v0 v1 h = some r) : AW s0 K lam p l e R s m args below meth c (AQ s0 K lam below oI b r s) b h (F0 m 21 ls []) := by
  unfold f_J11_newLength_j21 at hf
  have X := Z.1.1
  refine a_iload_n (pc := 21) X dJ11_newLength_21 rfl hl 0 rfl ?_
  refine a_iload_n (pc := 22) X dJ11_newLength_22 rfl hl 1 rfl ?_
  exact fl_no hf
theorem np_J11_newLength : npar yJ11_newLength.desc 3 := by unfold npar; decide +kernel
theorem hy_J11_newLength : yJ11_newLength.cls ≠ "java/lang/invoke/MethodHandle" ∧ yJ11_newLength.cls ≠ "java/lang/invoke/VarHandle" := by decide +kernel
theorem w_J11_newLength (GA : GA l s0 a0 K lam) (v0 : Int32) (v1 : Int32) (v2 : Int32) : AMet l s0 K lam yJ11_newLength (Cond.code yJ11_newLength cJ11_newLength (4 : Nat) (Option.some ClassFile.FieldType.int)) 1 29 [vI v0, vI v1, vI v2] oI (f_J11_newLength K v0 v1 v2) := by
  refine AMet.of GA.1 (plainFor_of_name (by decide +kernel)) (Nat.le_of_ble_eq_true rfl) ?_
  intro b r hf p e s m args below meth c X hr hlk hnm hnd ht ls hl
  have Z : WZ l s0 a0 K p s m c cJ11_newLength yJ11_newLength.cls 4 b { frames := 1, cells := K 0 - aX b, slots := K 1 - aW b, locals := 29 } 1 29 meth [] (some (.int)) yJ11_newLength := ⟨⟨X, GA.2.1, GA.2.2.1, rfl, rfl, Nat.le_refl _, Nat.le_refl _⟩, tab_nil ht, hr, hlk, hnm, hnd⟩
  unfold f_J11_newLength at hf
  clear hr hlk hnm hnd ht
  refine a_iload_n (pc := 0) X dJ11_newLength_0 rfl hl 0 rfl ?_
  refine a_iload_n (pc := 1) X dJ11_newLength_1 rfl hl 1 rfl ?_
  refine a_iload_n (pc := 2) X dJ11_newLength_2 rfl hl 2 rfl ?_
  refine AW.lift_c Z.1 (fun _ _ _ _ hc hs k => va_mmax (pc := 3) X.2.2.1 X.2.2.2.1 (X.2.2.2.2.2.trans hl.1.symm) X.2.2.2.2.1 (gw X.1 X.2.1 q564) (gw X.1 X.2.1 q565) (gw X.1 X.2.1 q93) (gw X.1 X.2.1 q566) (Nat.le_trans (by decide) Z.1.2.2.2.2.2.1) (cat_le (rs := [vI v0]) (Nat.le_of_ble_eq_true rfl) Z.1.2.2.2.2.2.2) hc hs dJ11_newLength_3 k) ?_
  refine AW.eq (g2 := F0 m 6 ls [.int (if v1 < v2 then v2 else v1), .int v0]) rfl ?_
  refine AW.lift (fun _ _ _ _ k => lv_iadd (pc := 6) X.2.2.1 X.2.2.2.1 dJ11_newLength_6 k) ?_
  refine a_istore_n (pc := 7) X dJ11_newLength_7 rfl hl (by decide) (lv' := [(3, vI (v0 + (if v1 < v2 then v2 else v1))), (0, vI v0), (1, vI v1), (2, vI v2)]) rfl (fun ls hl => ?_)
  refine AW.lift (fun _ _ _ _ k => lv_iconst (pc := 8) (v := (0 : Int32)) X.2.2.1 X.2.2.2.1 dJ11_newLength_8 rfl k) ?_
  refine a_iload_n (pc := 9) X dJ11_newLength_9 rfl hl 0 rfl ?_
  refine AW.lift2 (fun _ _ _ _ k1 k2 => lv_icmp_ge (pc := 10) (tgt := 21) X.2.2.1 X.2.2.2.1 dJ11_newLength_10 rfl k1 k2) (fun c => ?_) (fun c => ?_)
  · have hf := ite_t c hf
    exact w_J11_newLength_j21 GA Z v0 v1   (hl.sub [1, 2] rfl) hf
  · have hf := ite_f c hf
    refine a_iload_n (pc := 13) X dJ11_newLength_13 rfl hl 0 rfl ?_
    refine AW.lift (fun _ _ _ _ k => lv_ldc (pc := 14) X.2.2.1 X.2.2.2.1 X.2.2.2.2.1 (gw X.1 X.2.1 q567) dJ11_newLength_14 k) ?_
    refine AW.lift2 (fun _ _ _ _ k1 k2 => lv_icmp_gt (pc := 16) (tgt := 21) X.2.2.1 X.2.2.2.1 dJ11_newLength_16 rfl k1 k2) (fun c => ?_) (fun c => ?_)
    · have hf := ite_t c hf
      exact w_J11_newLength_j21 GA Z v0 v1   (hl.sub [1, 2] rfl) hf
    · have hf := ite_f c hf
      refine a_iload_n (pc := 19) X dJ11_newLength_19 rfl hl 0 rfl ?_
      exact a_ireturn X Z.2.2.1 Z.2.2.2.1 dJ11_newLength_20 hf
theorem w_J13_copyOf_3_j24 {r : Except Nat (Option Nat) × AH} (GA : GA l s0 a0 K lam) (Z : WZ l s0 a0 K p s m c cJ13_copyOf_3 yJ13_copyOf_3.cls 4 b R 1 48 meth [] (some (.array (.object "java/lang/Object"))) yJ13_copyOf_3) (v0 : Option Nat) (v1 : Int32) (t0 : Option Nat)  {h : AH} {ls : Array Slot} (hl : LV ls 4 [(0, vR v0), (1, vI v1)]) (hf : f_J13_copyOf_3_j24 K v0 v1 t0 h = some r) : AW s0 K lam p l e R s m args below meth c (AQ s0 K lam below oR b r s) b h (F0 m 24 ls [va_rf t0]) := by
  unfold f_J13_copyOf_3_j24 at hf
  have X := Z.1.1
  refine a_astore_n (pc := 24) X dJ13_copyOf_3_24 rfl hl (by decide) (lv' := [(3, vR t0), (0, vR v0), (1, vI v1)]) rfl (fun ls hl => ?_)
  refine a_aload_n (pc := 25) X dJ13_copyOf_3_25 rfl hl 1 rfl ?_
  refine AW.lift (fun _ _ _ _ k => lv_iconst (pc := 26) (v := (0 : Int32)) X.2.2.1 X.2.2.2.1 dJ13_copyOf_3_26 rfl k) ?_
  refine a_aload_n (pc := 27) X dJ13_copyOf_3_27 rfl hl 0 rfl ?_
  refine AW.lift (fun _ _ _ _ k => lv_iconst (pc := 28) (v := (0 : Int32)) X.2.2.1 X.2.2.2.1 dJ13_copyOf_3_28 rfl k) ?_
  refine a_aload_n (pc := 29) X dJ13_copyOf_3_29 rfl hl 1 rfl ?_
  refine a_arraylength (pc := 30) X dJ13_copyOf_3_30 hf (fun x30 hf => ?_)
  refine a_iload_n (pc := 31) X dJ13_copyOf_3_31 rfl hl 2 rfl ?_
  refine AW.lift_c Z.1 (fun _ _ _ _ hc hs k => va_mmin (pc := 32) X.2.2.1 X.2.2.2.1 (X.2.2.2.2.2.trans hl.1.symm) X.2.2.2.2.1 (gw X.1 X.2.1 q582) (gw X.1 X.2.1 q583) (gw X.1 X.2.1 q93) (gw X.1 X.2.1 q584) (Nat.le_trans (by decide) Z.1.2.2.2.2.2.1) (cat_le (rs := [vI (0 : Int32), vR t0, vI (0 : Int32), vR v0]) (Nat.le_of_ble_eq_true rfl) Z.1.2.2.2.2.2.2) hc hs dJ13_copyOf_3_32 k) ?_
  refine AW.eq (g2 := F0 m 35 ls [.int (if v1 < x30 then v1 else x30), .int (0 : Int32), va_rf t0, .int (0 : Int32), va_rf v0]) rfl ?_
  refine a_acpR (pc := 35) (rs := []) Z.1 q585 q587 q586 q95 (by decide) (by decide) hl.1 (Nat.le_of_ble_eq_true rfl) (cs_java_lang_Object GA) dJ13_copyOf_3_35 hf (fun h hf => ?_)
  refine AW.eq (g2 := F0 m 38 ls []) rfl ?_
  refine a_aload_n (pc := 38) X dJ13_copyOf_3_38 rfl hl 0 rfl ?_
  exact a_areturn X Z.2.2.1 (Or.inr ⟨_, rfl⟩) Z.2.2.2.1 dJ13_copyOf_3_39 hf
theorem np_J13_copyOf_3 : npar yJ13_copyOf_3.desc 3 := by unfold npar; decide +kernel
theorem hy_J13_copyOf_3 : yJ13_copyOf_3.cls ≠ "java/lang/invoke/MethodHandle" ∧ yJ13_copyOf_3.cls ≠ "java/lang/invoke/VarHandle" := by decide +kernel
theorem w_J13_copyOf_3 (GA : GA l s0 a0 K lam) (v0 : Option Nat) (v1 : Int32) (v2 : Option Nat) : AMet l s0 K lam yJ13_copyOf_3 (Cond.code yJ13_copyOf_3 cJ13_copyOf_3 (4 : Nat) (Option.some (ClassFile.FieldType.array (ClassFile.FieldType.object "java/lang/Object")))) 1 48 [vR v0, vI v1, vR v2] oR (f_J13_copyOf_3 K v0 v1 v2) := by
  refine AMet.of GA.1 (plainFor_of_name (by decide +kernel)) (Nat.le_of_ble_eq_true rfl) ?_
  intro b r hf p e s m args below meth c X hr hlk hnm hnd ht ls hl
  have Z : WZ l s0 a0 K p s m c cJ13_copyOf_3 yJ13_copyOf_3.cls 4 b { frames := 1, cells := K 0 - aX b, slots := K 1 - aW b, locals := 48 } 1 48 meth [] (some (.array (.object "java/lang/Object"))) yJ13_copyOf_3 := ⟨⟨X, GA.2.1, GA.2.2.1, rfl, rfl, Nat.le_refl _, Nat.le_refl _⟩, tab_nil ht, hr, hlk, hnm, hnd⟩
  unfold f_J13_copyOf_3 at hf
  clear hr hlk hnm hnd ht
  refine a_aload_n (pc := 0) X dJ13_copyOf_3_0 rfl hl 2 rfl ?_
  refine a_ldcM (pc := 1) X (gw X.1 X.2.1 q894) (mi_Object GA) dJ13_copyOf_3_1 ?_
  refine AW.lift2 (fun _ _ _ _ k1 k2 => lv_acmp_ne (pc := 3) (tgt := 13) X.2.2.1 X.2.2.2.1 dJ13_copyOf_3_3 rfl k2 k1) (fun c => ?_) (fun c => ?_)
  · have hf := ite_t c hf
    refine a_iload_n (pc := 6) X dJ13_copyOf_3_6 rfl hl 1 rfl ?_
    refine a_anewarray (pc := 7) (t := 1006) (C := "java/lang/Object") (by decide) rfl X Z.1.2.2.2.1 Z.1.2.2.2.2.1 (gw X.1 X.2.1 q896) (ao_1006 GA) dJ13_copyOf_3_7 hf (fun x7 h hf => ?_)
    refine AW.lift (fun _ _ _ _ k => lv_goto (pc := 10) (tgt := 24) X.2.2.1 X.2.2.2.1 dJ13_copyOf_3_10 rfl k) ?_
    exact w_J13_copyOf_3_j24 GA Z v0 v1 (some x7)  (hl.sub [0, 1] rfl) hf
  · have hf := ite_f c hf
    refine a_aload_n (pc := 13) X dJ13_copyOf_3_13 rfl hl 2 rfl ?_
    exact fl_no hf
theorem np_J13_copyOf_2 : npar yJ13_copyOf_2.desc 2 := by unfold npar; decide +kernel
theorem hy_J13_copyOf_2 : yJ13_copyOf_2.cls ≠ "java/lang/invoke/MethodHandle" ∧ yJ13_copyOf_2.cls ≠ "java/lang/invoke/VarHandle" := by decide +kernel
theorem w_J13_copyOf_2 (GA : GA l s0 a0 K lam) (v0 : Option Nat) (v1 : Int32) : AMet l s0 K lam yJ13_copyOf_2 (Cond.code yJ13_copyOf_2 cJ13_copyOf_2 (2 : Nat) (Option.some (ClassFile.FieldType.array (ClassFile.FieldType.object "java/lang/Object")))) 2 71 [vR v0, vI v1] oR (f_J13_copyOf_2 K v0 v1) := by
  refine AMet.of GA.1 (plainFor_of_name (by decide +kernel)) (Nat.le_of_ble_eq_true rfl) ?_
  intro b r hf p e s m args below meth c X hr hlk hnm hnd ht ls hl
  have Z : WZ l s0 a0 K p s m c cJ13_copyOf_2 yJ13_copyOf_2.cls 2 b { frames := 2, cells := K 0 - aX b, slots := K 1 - aW b, locals := 71 } 2 71 meth [] (some (.array (.object "java/lang/Object"))) yJ13_copyOf_2 := ⟨⟨X, GA.2.1, GA.2.2.1, rfl, rfl, Nat.le_refl _, Nat.le_refl _⟩, tab_nil ht, hr, hlk, hnm, hnd⟩
  unfold f_J13_copyOf_2 at hf
  clear hr hlk hnm hnd ht
  refine a_aload_n (pc := 0) X dJ13_copyOf_2_0 rfl hl 0 rfl ?_
  refine a_iload_n (pc := 1) X dJ13_copyOf_2_1 rfl hl 1 rfl ?_
  refine a_aload_n (pc := 2) X dJ13_copyOf_2_2 rfl hl 0 rfl ?_
  refine a_gcl (pc := 3) (rs := [vI v1, vR v0]) Z.1 (mi_Object GA) q851 q3541 q3540 q852 q890 (by decide) (by decide) hl.1 (Nat.le_of_ble_eq_true rfl) dJ13_copyOf_2_3 hf (fun hf => ?_)
  refine AW.eq (g2 := F0 m 6 ls [va_rf (some (K 11)), .int v1, va_rf v0]) rfl ?_
  refine a_callb (pc := 6) (rs := []) (avs := [vR v0, vI v1, vR (some (K 11))]) Z.1 (w_J13_copyOf_3 GA v0 v1 (some (K 11))) (Or.inl rfl) q893 q94 (by decide) (by decide) dJ13_copyOf_2_6 hl.1 (Nat.le_of_ble_eq_true rfl) hf (ct_S X (Or.inl rfl) q893 q94 q891 q892 hy_J13_copyOf_3 np_J13_copyOf_3 rfl dJ13_copyOf_2_6) (fun q h he hX => a_out (unc_of Z.2.1 rfl) Z.2.2.2.1 he hX) (fun x6 h hf => ?kk6)
  refine AW.eq (g2 := F0 m 9 ls [va_rf x6]) rfl ?_
  exact a_areturn X Z.2.2.1 (Or.inr ⟨_, rfl⟩) Z.2.2.2.1 dJ13_copyOf_2_9 hf
theorem w_J2_grow_2_j20 {r : Except Nat (Option Nat) × AH} (GA : GA l s0 a0 K lam) (Z : WZ l s0 a0 K p s m c cJ2_grow_2 yJ2_grow_2.cls 4 b R 3 92 meth [] (some (.array (.object "java/lang/Object"))) yJ2_grow_2) (v0 : Option Nat) (v1 : Int32) (v2 : Int32)   {h : AH} {ls : Array Slot} (hl : LV ls 4 [(0, vR v0), (1, vI v1), (2, vI v2)]) (hf : f_J2_grow_2_j20 K v0 v1 v2 h = some r) : AW s0 K lam p l e R s m args below meth c (AQ s0 K lam below oR b r s) b h (F0 m 20 ls []) := by
  unfold f_J2_grow_2_j20 at hf
  have X := Z.1.1
  refine a_iload_n (pc := 20) X dJ2_grow_2_20 rfl hl 2 rfl ?_
  refine a_iload_n (pc := 21) X dJ2_grow_2_21 rfl hl 1 rfl ?_
  refine a_iload_n (pc := 22) X dJ2_grow_2_22 rfl hl 2 rfl ?_
  refine AW.lift (fun _ _ _ _ k => lv_isub (pc := 23) X.2.2.1 X.2.2.2.1 dJ2_grow_2_23 k) ?_
  refine a_iload_n (pc := 24) X dJ2_grow_2_24 rfl hl 2 rfl ?_
  refine AW.lift (fun _ _ _ _ k => lv_iconst (pc := 25) (v := (1 : Int32)) X.2.2.1 X.2.2.2.1 dJ2_grow_2_25 rfl k) ?_
  refine AW.lift (fun _ _ _ _ k => lv_ishr (pc := 26) X.2.2.1 X.2.2.2.1 dJ2_grow_2_26 k) ?_
  refine a_callb (pc := 27) (rs := []) (avs := [vI v2, vI (v1 - v2), vI (v2 >>> ((1 : Int32) &&& 31))]) Z.1 (w_J11_newLength GA v2 (v1 - v2) (v2 >>> ((1 : Int32) &&& 31))) (Or.inl rfl) q563 q92 (by decide) (by decide) dJ2_grow_2_27 hl.1 (Nat.le_of_ble_eq_true rfl) hf (ct_S X (Or.inl rfl) q563 q92 q847 q562 hy_J11_newLength np_J11_newLength rfl dJ2_grow_2_27) (fun q h he hX => a_out (unc_of Z.2.1 rfl) Z.2.2.2.1 he hX) (fun x27 h hf => ?kk27)
  refine AW.eq (g2 := F0 m 30 ls [.int x27]) rfl ?_
  refine a_istore_n (pc := 30) X dJ2_grow_2_30 rfl hl (by decide) (lv' := [(3, vI x27), (0, vR v0), (1, vI v1), (2, vI v2)]) rfl (fun ls hl => ?_)
  refine a_aload_n (pc := 31) X dJ2_grow_2_31 rfl hl 1 rfl ?_
  refine a_aload_n (pc := 32) X dJ2_grow_2_32 rfl hl 1 rfl ?_
  refine a_get (pc := 33) (φ := 2500) pR_t X Z.1.2.1 (gw X.1 X.2.1 q166) (fun _ q => q) (by decide) dJ2_grow_2_33 hf (fun x33 hf => ?_)
  refine a_iload_n (pc := 36) X dJ2_grow_2_36 rfl hl 0 rfl ?_
  refine a_callb (pc := 37) (rs := [vR v0]) (avs := [vR x33, vI x27]) Z.1 (w_J13_copyOf_2 GA x33 x27) (Or.inl rfl) q850 q94 (by decide) (by decide) dJ2_grow_2_37 hl.1 (Nat.le_of_ble_eq_true rfl) hf (ct_S X (Or.inl rfl) q850 q94 q848 q849 hy_J13_copyOf_2 np_J13_copyOf_2 rfl dJ2_grow_2_37) (fun q h he hX => a_out (unc_of Z.2.1 rfl) Z.2.2.2.1 he hX) (fun x37 h hf => ?kk37)
  refine AW.eq (g2 := F0 m 40 ls [va_rf x37, va_rf v0]) rfl ?_
  refine AW.lift (fun _ _ _ _ k => lv_dup_x1 (pc := 40) X.2.2.1 X.2.2.2.1 dJ2_grow_2_40 (cat_rf _) (cat_rf _) k) ?_
  refine a_put (pc := 41) (φ := 2500) X Z.1.2.1 Z.1.2.2.1 (gw X.1 X.2.1 q166) (fun _ q => q) (by decide) rfl (fits_rf _ (Or.inr ⟨_, rfl⟩)) dJ2_grow_2_41 hf (fun h hf => ?_)
  exact a_areturn X Z.2.2.1 (Or.inr ⟨_, rfl⟩) Z.2.2.2.1 dJ2_grow_2_44 hf
theorem np_J2_grow_2 : npar yJ2_grow_2.desc 1 := by unfold npar; decide +kernel
theorem hy_J2_grow_2 : yJ2_grow_2.cls ≠ "java/lang/invoke/MethodHandle" ∧ yJ2_grow_2.cls ≠ "java/lang/invoke/VarHandle" := by decide +kernel
theorem w_J2_grow_2 (GA : GA l s0 a0 K lam) (v0 : Option Nat) (v1 : Int32) : AMet l s0 K lam yJ2_grow_2 (Cond.code yJ2_grow_2 cJ2_grow_2 (4 : Nat) (Option.some (ClassFile.FieldType.array (ClassFile.FieldType.object "java/lang/Object")))) 3 92 [vR v0, vI v1] oR (f_J2_grow_2 K v0 v1) := by
  refine AMet.of GA.1 (plainFor_of_name (by decide +kernel)) (Nat.le_of_ble_eq_true rfl) ?_
  intro b r hf p e s m args below meth c X hr hlk hnm hnd ht ls hl
  have Z : WZ l s0 a0 K p s m c cJ2_grow_2 yJ2_grow_2.cls 4 b { frames := 3, cells := K 0 - aX b, slots := K 1 - aW b, locals := 92 } 3 92 meth [] (some (.array (.object "java/lang/Object"))) yJ2_grow_2 := ⟨⟨X, GA.2.1, GA.2.2.1, rfl, rfl, Nat.le_refl _, Nat.le_refl _⟩, tab_nil ht, hr, hlk, hnm, hnd⟩
  unfold f_J2_grow_2 at hf
  clear hr hlk hnm hnd ht
  refine a_aload_n (pc := 0) X dJ2_grow_2_0 rfl hl 0 rfl ?_
  refine a_get (pc := 1) (φ := 2500) pR_t X Z.1.2.1 (gw X.1 X.2.1 q166) (fun _ q => q) (by decide) dJ2_grow_2_1 hf (fun x1 hf => ?_)
  refine a_arraylength (pc := 4) X dJ2_grow_2_4 hf (fun x4 hf => ?_)
  refine a_istore_n (pc := 5) X dJ2_grow_2_5 rfl hl (by decide) (lv' := [(2, vI x4), (0, vR v0), (1, vI v1)]) rfl (fun ls hl => ?_)
  refine a_iload_n (pc := 6) X dJ2_grow_2_6 rfl hl 0 rfl ?_
  refine AW.lift2 (fun _ _ _ _ k1 k2 => lv_if_gt (pc := 7) (tgt := 20) X.2.2.1 X.2.2.2.1 dJ2_grow_2_7 rfl k1 k2) (fun c => ?_) (fun c => ?_)
  · have hf := ite_t c hf
    exact w_J2_grow_2_j20 GA Z v0 v1 x4   (hl.sub [1, 2, 0] rfl) hf
  · have hf := ite_f c hf
    refine a_aload_n (pc := 10) X dJ2_grow_2_10 rfl hl 1 rfl ?_
    refine a_get (pc := 11) (φ := 2500) pR_t X Z.1.2.1 (gw X.1 X.2.1 q166) (fun _ q => q) (by decide) dJ2_grow_2_11 hf (fun x11 hf => ?_)
    refine a_getstatic (pc := 14) (v := va_rf (some (K 3))) X (st_DEFAULTCAPACITY_EMPTY_ELEMENTDATA GA) (gw X.1 X.2.1 q164) (fun _ q => q) dJ2_grow_2_14 ?_
    refine AW.lift2 (fun _ _ _ _ k1 k2 => lv_acmp_eq (pc := 17) (tgt := 45) X.2.2.1 X.2.2.2.1 dJ2_grow_2_17 rfl k1 k2) (fun c => ?_) (fun c => ?_)
    · have hf := ite_t c hf
      refine a_aload_n (pc := 45) X dJ2_grow_2_45 rfl hl 1 rfl ?_
      refine AW.lift (fun _ _ _ _ k => lv_bipush (pc := 46) (v := (10 : Int32)) X.2.2.1 X.2.2.2.1 dJ2_grow_2_46 rfl k) ?_
      refine a_iload_n (pc := 48) X dJ2_grow_2_48 rfl hl 2 rfl ?_
      refine AW.lift_c Z.1 (fun _ _ _ _ hc hs k => va_mmax (pc := 49) X.2.2.1 X.2.2.2.1 (X.2.2.2.2.2.trans hl.1.symm) X.2.2.2.2.1 (gw X.1 X.2.1 q897) (gw X.1 X.2.1 q565) (gw X.1 X.2.1 q93) (gw X.1 X.2.1 q566) (Nat.le_trans (by decide) Z.1.2.2.2.2.2.1) (cat_le (rs := [vR v0]) (Nat.le_of_ble_eq_true rfl) Z.1.2.2.2.2.2.2) hc hs dJ2_grow_2_49 k) ?_
      refine AW.eq (g2 := F0 m 52 ls [.int (if (10 : Int32) < v1 then v1 else (10 : Int32)), va_rf v0]) rfl ?_
      refine a_anewarray (pc := 52) (t := 1006) (C := "java/lang/Object") (by decide) rfl X Z.1.2.2.2.1 Z.1.2.2.2.2.1 (gw X.1 X.2.1 q898) (ao_1006 GA) dJ2_grow_2_52 hf (fun x52 h hf => ?_)
      refine AW.lift (fun _ _ _ _ k => lv_dup_x1 (pc := 55) X.2.2.1 X.2.2.2.1 dJ2_grow_2_55 (cat_rf _) (cat_rf _) k) ?_
      refine a_put (pc := 56) (φ := 2500) X Z.1.2.1 Z.1.2.2.1 (gw X.1 X.2.1 q166) (fun _ q => q) (by decide) rfl (fits_rf _ (Or.inr ⟨_, rfl⟩)) dJ2_grow_2_56 hf (fun h hf => ?_)
      exact a_areturn X Z.2.2.1 (Or.inr ⟨_, rfl⟩) Z.2.2.2.1 dJ2_grow_2_59 hf
    · have hf := ite_f c hf
      exact w_J2_grow_2_j20 GA Z v0 v1 x4   (hl.sub [1, 2, 0] rfl) hf
theorem np_J2_grow : npar yJ2_grow.desc 0 := by unfold npar; decide +kernel
theorem hy_J2_grow : yJ2_grow.cls ≠ "java/lang/invoke/MethodHandle" ∧ yJ2_grow.cls ≠ "java/lang/invoke/VarHandle" := by decide +kernel
theorem w_J2_grow (GA : GA l s0 a0 K lam) (v0 : Option Nat) : AMet l s0 K lam yJ2_grow (Cond.code yJ2_grow cJ2_grow (1 : Nat) (Option.some (ClassFile.FieldType.array (ClassFile.FieldType.object "java/lang/Object")))) 4 115 [vR v0] oR (f_J2_grow K v0) := by
  refine AMet.of GA.1 (plainFor_of_name (by decide +kernel)) (Nat.le_of_ble_eq_true rfl) ?_
  intro b r hf p e s m args below meth c X hr hlk hnm hnd ht ls hl
  have Z : WZ l s0 a0 K p s m c cJ2_grow yJ2_grow.cls 1 b { frames := 4, cells := K 0 - aX b, slots := K 1 - aW b, locals := 115 } 4 115 meth [] (some (.array (.object "java/lang/Object"))) yJ2_grow := ⟨⟨X, GA.2.1, GA.2.2.1, rfl, rfl, Nat.le_refl _, Nat.le_refl _⟩, tab_nil ht, hr, hlk, hnm, hnd⟩
  unfold f_J2_grow at hf
  clear hr hlk hnm hnd ht
  refine a_aload_n (pc := 0) X dJ2_grow_0 rfl hl 0 rfl ?_
  refine a_aload_n (pc := 1) X dJ2_grow_1 rfl hl 0 rfl ?_
  refine a_get (pc := 2) (φ := 2501) pI_t X Z.1.2.1 (gw X.1 X.2.1 q169) (fun _ q => q) (by decide) dJ2_grow_2 hf (fun x2 hf => ?_)
  refine AW.lift (fun _ _ _ _ k => lv_iconst (pc := 5) (v := (1 : Int32)) X.2.2.1 X.2.2.2.1 dJ2_grow_5 rfl k) ?_
  refine AW.lift (fun _ _ _ _ k => lv_iadd (pc := 6) X.2.2.1 X.2.2.2.1 dJ2_grow_6 k) ?_
  obtain ⟨a7, rfl, ⟨hk, hf⟩ | ⟨-, hf⟩⟩ := dv_some hf
  rotate_left
  · exact fl_none hf
  refine a_callb (pc := 7) (rs := []) (avs := [vR (some a7), vI (x2 + (1 : Int32))]) Z.1 (w_J2_grow_2 GA (some a7) (x2 + (1 : Int32))) (Or.inl rfl) q846 q78 (by decide) (by decide) dJ2_grow_7 hl.1 (Nat.le_of_ble_eq_true rfl) hf (ct_V hk ⟨by decide, by decide⟩ X (Or.inl rfl) q846 q843 q845 pv_3 hy_J2_grow_2 np_J2_grow_2 rfl dJ2_grow_7) (fun q h he hX => a_out (unc_of Z.2.1 rfl) Z.2.2.2.1 he hX) (fun x7 h hf => ?kk7)
  refine AW.eq (g2 := F0 m 10 ls [va_rf x7]) rfl ?_
  exact a_areturn X Z.2.2.1 (Or.inr ⟨_, rfl⟩) Z.2.2.2.1 dJ2_grow_10 hf
theorem w_J2_add_2_j11 {r : Except Nat (Unit) × AH} (GA : GA l s0 a0 K lam) (Z : WZ l s0 a0 K p s m c cJ2_add_2 yJ2_add_2.cls 4 b R 5 135 meth [] none yJ2_add_2) (v0 : Option Nat) (v1 : Option Nat) (v2 : Option Nat) (v3 : Int32)   {h : AH} {ls : Array Slot} (hl : LV ls 4 [(0, vR v0), (1, vR v1), (2, vR v2), (3, vI v3)]) (hf : f_J2_add_2_j11 K v0 v1 v2 v3 h = some r) : AW s0 K lam p l e R s m args below meth c (AQ s0 K lam below oV b r s) b h (F0 m 11 ls []) := by
  unfold f_J2_add_2_j11 at hf
  have X := Z.1.1
  refine a_aload_n (pc := 11) X dJ2_add_2_11 rfl hl 2 rfl ?_
  refine a_iload_n (pc := 12) X dJ2_add_2_12 rfl hl 3 rfl ?_
  refine a_aload_n (pc := 13) X dJ2_add_2_13 rfl hl 1 rfl ?_
  refine a_aastore (pc := 14) (t := 1006) (C := "java/lang/Object") (by decide) rfl X (cs_java_lang_Object GA) dJ2_add_2_14 hf (fun h hf => ?_)
  refine a_aload_n (pc := 15) X dJ2_add_2_15 rfl hl 0 rfl ?_
  refine a_iload_n (pc := 16) X dJ2_add_2_16 rfl hl 3 rfl ?_
  refine AW.lift (fun _ _ _ _ k => lv_iconst (pc := 17) (v := (1 : Int32)) X.2.2.1 X.2.2.2.1 dJ2_add_2_17 rfl k) ?_
  refine AW.lift (fun _ _ _ _ k => lv_iadd (pc := 18) X.2.2.1 X.2.2.2.1 dJ2_add_2_18 k) ?_
  refine a_put (pc := 19) (φ := 2501) X Z.1.2.1 Z.1.2.2.1 (gw X.1 X.2.1 q169) (fun _ q => q) (by decide) rfl rfl dJ2_add_2_19 hf (fun h hf => ?_)
  exact a_return X Z.2.2.1 Z.2.2.2.1 dJ2_add_2_22 hf
theorem np_J2_add_2 : npar yJ2_add_2.desc 3 := by unfold npar; decide +kernel
theorem hy_J2_add_2 : yJ2_add_2.cls ≠ "java/lang/invoke/MethodHandle" ∧ yJ2_add_2.cls ≠ "java/lang/invoke/VarHandle" := by decide +kernel
theorem w_J2_add_2 (GA : GA l s0 a0 K lam) (v0 : Option Nat) (v1 : Option Nat) (v2 : Option Nat) (v3 : Int32) : AMet l s0 K lam yJ2_add_2 (Cond.code yJ2_add_2 cJ2_add_2 (4 : Nat) (Option.none : Option ClassFile.FieldType)) 5 135 [vR v0, vR v1, vR v2, vI v3] oV (f_J2_add_2 K v0 v1 v2 v3) := by
  refine AMet.of GA.1 (plainFor_of_name (by decide +kernel)) (Nat.le_of_ble_eq_true rfl) ?_
  intro b r hf p e s m args below meth c X hr hlk hnm hnd ht ls hl
  have Z : WZ l s0 a0 K p s m c cJ2_add_2 yJ2_add_2.cls 4 b { frames := 5, cells := K 0 - aX b, slots := K 1 - aW b, locals := 135 } 5 135 meth [] none yJ2_add_2 := ⟨⟨X, GA.2.1, GA.2.2.1, rfl, rfl, Nat.le_refl _, Nat.le_refl _⟩, tab_nil ht, hr, hlk, hnm, hnd⟩
  unfold f_J2_add_2 at hf
  clear hr hlk hnm hnd ht
  refine a_iload_n (pc := 0) X dJ2_add_2_0 rfl hl 3 rfl ?_
  refine a_aload_n (pc := 1) X dJ2_add_2_1 rfl hl 2 rfl ?_
  refine a_arraylength (pc := 2) X dJ2_add_2_2 hf (fun x2 hf => ?_)
  refine AW.lift2 (fun _ _ _ _ k1 k2 => lv_icmp_ne (pc := 3) (tgt := 11) X.2.2.1 X.2.2.2.1 dJ2_add_2_3 rfl k2 k1) (fun c => ?_) (fun c => ?_)
  · have hf := ite_t c hf
    refine a_aload_n (pc := 6) X dJ2_add_2_6 rfl hl 0 rfl ?_
    obtain ⟨a7, rfl, ⟨hk, hf⟩ | ⟨-, hf⟩⟩ := dv_some hf
    rotate_left
    · exact fl_none hf
    refine a_callb (pc := 7) (rs := []) (avs := [vR (some a7)]) Z.1 (w_J2_grow GA (some a7)) (Or.inl rfl) q842 q78 (by decide) (by decide) dJ2_add_2_7 hl.1 (Nat.le_of_ble_eq_true rfl) hf (ct_V hk ⟨by decide, by decide⟩ X (Or.inl rfl) q842 q839 q841 pv_2 hy_J2_grow np_J2_grow rfl dJ2_add_2_7) (fun q h he hX => a_out (unc_of Z.2.1 rfl) Z.2.2.2.1 he hX) (fun x7 h hf => ?kk7)
    refine AW.eq (g2 := F0 m 10 ls [va_rf x7]) rfl ?_
    refine a_astore_n (pc := 10) X dJ2_add_2_10 rfl hl (by decide) (lv' := [(2, vR x7), (0, vR (some a7)), (1, vR v1), (3, vI v3)]) rfl (fun ls hl => ?_)
    exact w_J2_add_2_j11 GA Z (some a7) v1 x7 v3   (hl.sub [1, 2, 0, 3] rfl) hf
  · have hf := ite_f c hf
    exact w_J2_add_2_j11 GA Z v0 v1 v2 v3   (hl.sub [0, 1, 2, 3] rfl) hf
theorem np_J2_add : npar yJ2_add.desc 1 := by unfold npar; decide +kernel
theorem hy_J2_add : yJ2_add.cls ≠ "java/lang/invoke/MethodHandle" ∧ yJ2_add.cls ≠ "java/lang/invoke/VarHandle" := by decide +kernel
theorem w_J2_add (GA : GA l s0 a0 K lam) (v0 : Option Nat) (v1 : Option Nat) : AMet l s0 K lam yJ2_add (Cond.code yJ2_add cJ2_add (2 : Nat) (Option.some ClassFile.FieldType.boolean)) 6 158 [vR v0, vR v1] oI (f_J2_add K v0 v1) := by
  refine AMet.of GA.1 (plainFor_of_name (by decide +kernel)) (Nat.le_of_ble_eq_true rfl) ?_
  intro b r hf p e s m args below meth c X hr hlk hnm hnd ht ls hl
  have Z : WZ l s0 a0 K p s m c cJ2_add yJ2_add.cls 2 b { frames := 6, cells := K 0 - aX b, slots := K 1 - aW b, locals := 158 } 6 158 meth [] (some (.boolean)) yJ2_add := ⟨⟨X, GA.2.1, GA.2.2.1, rfl, rfl, Nat.le_refl _, Nat.le_refl _⟩, tab_nil ht, hr, hlk, hnm, hnd⟩
  unfold f_J2_add at hf
  clear hr hlk hnm hnd ht
  refine a_aload_n (pc := 0) X dJ2_add_0 rfl hl 0 rfl ?_
  refine AW.lift (fun _ _ _ _ k => lv_dup (pc := 1) X.2.2.1 X.2.2.2.1 dJ2_add_1 (cat_rf _) k) ?_
  refine a_get (pc := 2) (φ := 2400) pI_t X Z.1.2.1 (gw X.1 X.2.1 q173) (sameF (gw (args := args) X.1 X.2.1 q172)) (by decide) dJ2_add_2 hf (fun x2 hf => ?_)
  refine AW.lift (fun _ _ _ _ k => lv_iconst (pc := 5) (v := (1 : Int32)) X.2.2.1 X.2.2.2.1 dJ2_add_5 rfl k) ?_
  refine AW.lift (fun _ _ _ _ k => lv_iadd (pc := 6) X.2.2.1 X.2.2.2.1 dJ2_add_6 k) ?_
  refine a_put (pc := 7) (φ := 2400) X Z.1.2.1 Z.1.2.2.1 (gw X.1 X.2.1 q173) (sameF (gw (args := args) X.1 X.2.1 q172)) (by decide) rfl rfl dJ2_add_7 hf (fun h hf => ?_)
  refine a_aload_n (pc := 10) X dJ2_add_10 rfl hl 0 rfl ?_
  refine a_aload_n (pc := 11) X dJ2_add_11 rfl hl 1 rfl ?_
  refine a_aload_n (pc := 12) X dJ2_add_12 rfl hl 0 rfl ?_
  refine a_get (pc := 13) (φ := 2500) pR_t X Z.1.2.1 (gw X.1 X.2.1 q166) (fun _ q => q) (by decide) dJ2_add_13 hf (fun x13 hf => ?_)
  refine a_aload_n (pc := 16) X dJ2_add_16 rfl hl 0 rfl ?_
  refine a_get (pc := 17) (φ := 2501) pI_t X Z.1.2.1 (gw X.1 X.2.1 q169) (fun _ q => q) (by decide) dJ2_add_17 hf (fun x17 hf => ?_)
  obtain ⟨a20, rfl, ⟨hk, hf⟩ | ⟨-, hf⟩⟩ := dv_some hf
  rotate_left
  · exact fl_none hf
  refine a_callb (pc := 20) (rs := []) (avs := [vR (some a20), vR v1, vR x13, vI x17]) Z.1 (w_J2_add_2 GA (some a20) v1 x13 x17) (Or.inl rfl) q838 q78 (by decide) (by decide) dJ2_add_20 hl.1 (Nat.le_of_ble_eq_true rfl) hf (ct_V hk ⟨by decide, by decide⟩ X (Or.inl rfl) q838 q835 q837 pv_1 hy_J2_add_2 np_J2_add_2 rfl dJ2_add_20) (fun q h he hX => a_out (unc_of Z.2.1 rfl) Z.2.2.2.1 he hX) (fun _ h hf => ?kk20)
  refine AW.eq (g2 := F0 m 23 ls []) rfl ?_
  refine AW.lift (fun _ _ _ _ k => lv_iconst (pc := 23) (v := (1 : Int32)) X.2.2.1 X.2.2.2.1 dJ2_add_23 rfl k) ?_
  exact a_zreturn X Z.2.2.1 rfl Z.2.2.2.1 dJ2_add_24 hf
theorem np_X8_init : npar yX8_init.desc 4 := by unfold npar; decide +kernel
theorem hy_X8_init : yX8_init.cls ≠ "java/lang/invoke/MethodHandle" ∧ yX8_init.cls ≠ "java/lang/invoke/VarHandle" := by decide +kernel
theorem w_X8_init (GA : GA l s0 a0 K lam) (v0 : Option Nat) (v1 : Int32) (v2 : Int32) (v3 : Int32) (v4 : Int32) : AMet l s0 K lam yX8_init (Cond.code yX8_init cX8_init (5 : Nat) (Option.none : Option ClassFile.FieldType)) 1 20 [vR v0, vI v1, vI v2, vI v3, vI v4] oV (f_X8_init K v0 v1 v2 v3 v4) := by
  refine AMet.of GA.1 (plainFor_of_name (by decide +kernel)) (Nat.le_of_ble_eq_true rfl) ?_
  intro b r hf p e s m args below meth c X hr hlk hnm hnd ht ls hl
  have Z : WZ l s0 a0 K p s m c cX8_init yX8_init.cls 5 b { frames := 1, cells := K 0 - aX b, slots := K 1 - aW b, locals := 20 } 1 20 meth [] none yX8_init := ⟨⟨X, GA.2.1, GA.2.2.1, rfl, rfl, Nat.le_refl _, Nat.le_refl _⟩, tab_nil ht, hr, hlk, hnm, hnd⟩
  unfold f_X8_init at hf
  clear hr hlk hnm hnd ht
  refine a_aload_n (pc := 0) X dX8_init_0 rfl hl 0 rfl ?_
  obtain ⟨a1, rfl, hf⟩ := nz_some hf
  refine a_objInit (pc := 1) (rs := []) Z.1 q909 q144 q145 (by decide) (by decide) hl.1 (Nat.le_of_ble_eq_true rfl) dX8_init_1 ?_
  refine AW.eq (g2 := F0 m 4 ls []) rfl ?_
  refine a_aload_n (pc := 4) X dX8_init_4 rfl hl 0 rfl ?_
  refine AW.lift (fun _ _ _ _ k => lv_iconst (pc := 5) (v := (-1 : Int32)) X.2.2.1 X.2.2.2.1 dX8_init_5 rfl k) ?_
  refine a_put (pc := 6) (φ := 505) X Z.1.2.1 Z.1.2.2.1 (gw X.1 X.2.1 q924) (fun _ q => q) (by decide) rfl rfl dX8_init_6 hf (fun h hf => ?_)
  refine a_aload_n (pc := 9) X dX8_init_9 rfl hl 0 rfl ?_
  refine AW.lift (fun _ _ _ _ k => lv_iconst (pc := 10) (v := (-1 : Int32)) X.2.2.1 X.2.2.2.1 dX8_init_10 rfl k) ?_
  refine a_put (pc := 11) (φ := 506) X Z.1.2.1 Z.1.2.2.1 (gw X.1 X.2.1 q927) (fun _ q => q) (by decide) rfl rfl dX8_init_11 hf (fun h hf => ?_)
  refine a_aload_n (pc := 14) X dX8_init_14 rfl hl 0 rfl ?_
  refine a_iload_n (pc := 15) X dX8_init_15 rfl hl 1 rfl ?_
  refine a_putF (pc := 16) (φ := 500) X Z.1.2.1 Z.1.2.2.1 (gw X.1 X.2.1 q910) (fun _ q => q) (by decide) rfl Z.2.2.2.2.1 rfl rfl dX8_init_16 hf (fun h hf => ?_)
  refine a_aload_n (pc := 19) X dX8_init_19 rfl hl 0 rfl ?_
  refine a_iload_n (pc := 20) X dX8_init_20 rfl hl 2 rfl ?_
  refine a_putF (pc := 21) (φ := 501) X Z.1.2.1 Z.1.2.2.1 (gw X.1 X.2.1 q913) (fun _ q => q) (by decide) rfl Z.2.2.2.2.1 rfl rfl dX8_init_21 hf (fun h hf => ?_)
  refine a_aload_n (pc := 24) X dX8_init_24 rfl hl 0 rfl ?_
  refine a_iload_n (pc := 25) X dX8_init_25 rfl hl 3 rfl ?_
  refine a_putF (pc := 26) (φ := 502) X Z.1.2.1 Z.1.2.2.1 (gw X.1 X.2.1 q916) (fun _ q => q) (by decide) rfl Z.2.2.2.2.1 rfl rfl dX8_init_26 hf (fun h hf => ?_)
  refine a_aload_n (pc := 29) X dX8_init_29 rfl hl 0 rfl ?_
  refine a_iload (pc := 30) X dX8_init_30 hl 4 rfl ?_
  refine a_putF (pc := 32) (φ := 503) X Z.1.2.1 Z.1.2.2.1 (gw X.1 X.2.1 q919) (fun _ q => q) (by decide) rfl Z.2.2.2.2.1 rfl rfl dX8_init_32 hf (fun h hf => ?_)
  exact a_return X Z.2.2.1 Z.2.2.2.1 dX8_init_35 hf
theorem np_X8_copy : npar yX8_copy.desc 0 := by unfold npar; decide +kernel
theorem hy_X8_copy : yX8_copy.cls ≠ "java/lang/invoke/MethodHandle" ∧ yX8_copy.cls ≠ "java/lang/invoke/VarHandle" := by decide +kernel
theorem w_X8_copy (GA : GA l s0 a0 K lam) (v0 : Option Nat) : AMet l s0 K lam yX8_copy (Cond.code yX8_copy cX8_copy (2 : Nat) (Option.some (ClassFile.FieldType.object "JumpHall$Jumper"))) 2 44 [vR v0] oR (f_X8_copy K v0) := by
  refine AMet.of GA.1 (plainFor_of_name (by decide +kernel)) (Nat.le_of_ble_eq_true rfl) ?_
  intro b r hf p e s m args below meth c X hr hlk hnm hnd ht ls hl
  have Z : WZ l s0 a0 K p s m c cX8_copy yX8_copy.cls 2 b { frames := 2, cells := K 0 - aX b, slots := K 1 - aW b, locals := 44 } 2 44 meth [] (some (.object "JumpHall$Jumper")) yX8_copy := ⟨⟨X, GA.2.1, GA.2.2.1, rfl, rfl, Nat.le_refl _, Nat.le_refl _⟩, tab_nil ht, hr, hlk, hnm, hnd⟩
  unfold f_X8_copy at hf
  clear hr hlk hnm hnd ht
  refine a_new (pc := 0) (cK := 5) (n := 8) X Z.1.2.1 Z.1.2.2.1 Z.1.2.2.2.1 Z.1.2.2.2.2.1 ⟨by decide, by decide, by decide⟩ (gw X.1 X.2.1 q904) (gw X.1 X.2.1 q905) (gw X.1 X.2.1 q107) dX8_copy_0 hf (fun x0 h hf => ?_)
  refine AW.lift (fun _ _ _ _ k => lv_dup (pc := 3) X.2.2.1 X.2.2.2.1 dX8_copy_3 (cat_rf _) k) ?_
  refine a_aload_n (pc := 4) X dX8_copy_4 rfl hl 0 rfl ?_
  refine a_get (pc := 5) (φ := 500) pI_t X Z.1.2.1 (gw X.1 X.2.1 q910) (fun _ q => q) (by decide) dX8_copy_5 hf (fun x5 hf => ?_)
  refine a_aload_n (pc := 8) X dX8_copy_8 rfl hl 0 rfl ?_
  refine a_get (pc := 9) (φ := 501) pI_t X Z.1.2.1 (gw X.1 X.2.1 q913) (fun _ q => q) (by decide) dX8_copy_9 hf (fun x9 hf => ?_)
  refine a_aload_n (pc := 12) X dX8_copy_12 rfl hl 0 rfl ?_
  refine a_get (pc := 13) (φ := 502) pI_t X Z.1.2.1 (gw X.1 X.2.1 q916) (fun _ q => q) (by decide) dX8_copy_13 hf (fun x13 hf => ?_)
  refine a_aload_n (pc := 16) X dX8_copy_16 rfl hl 0 rfl ?_
  refine a_get (pc := 17) (φ := 503) pI_t X Z.1.2.1 (gw X.1 X.2.1 q919) (fun _ q => q) (by decide) dX8_copy_17 hf (fun x17 hf => ?_)
  refine a_callb (pc := 20) (rs := [vR (some x0)]) (avs := [vR (some x0), vI x5, vI x9, vI x13, vI x17]) Z.1 (w_X8_init GA (some x0) x5 x9 x13 x17) (Or.inl rfl) q908 q107 (by decide) (by decide) dX8_copy_20 hl.1 (Nat.le_of_ble_eq_true rfl) hf (ct_I X q908 q906 q907 rfl hy_X8_init np_X8_init rfl dX8_copy_20) (fun q h he hX => a_out (unc_of Z.2.1 rfl) Z.2.2.2.1 he hX) (fun _ h hf => ?kk20)
  refine AW.eq (g2 := F0 m 23 ls [va_rf (some x0)]) rfl ?_
  refine a_astore_n (pc := 23) X dX8_copy_23 rfl hl (by decide) (lv' := [(1, vR (some x0)), (0, vR v0)]) rfl (fun ls hl => ?_)
  refine a_aload_n (pc := 24) X dX8_copy_24 rfl hl 0 rfl ?_
  refine a_aload_n (pc := 25) X dX8_copy_25 rfl hl 1 rfl ?_
  refine a_get (pc := 26) (φ := 504) pI_t X Z.1.2.1 (gw X.1 X.2.1 q921) (fun _ q => q) (by decide) dX8_copy_26 hf (fun x26 hf => ?_)
  refine a_put (pc := 29) (φ := 504) X Z.1.2.1 Z.1.2.2.1 (gw X.1 X.2.1 q921) (fun _ q => q) (by decide) rfl rfl dX8_copy_29 hf (fun h hf => ?_)
  refine a_aload_n (pc := 32) X dX8_copy_32 rfl hl 0 rfl ?_
  refine a_aload_n (pc := 33) X dX8_copy_33 rfl hl 1 rfl ?_
  refine a_get (pc := 34) (φ := 505) pI_t X Z.1.2.1 (gw X.1 X.2.1 q924) (fun _ q => q) (by decide) dX8_copy_34 hf (fun x34 hf => ?_)
  refine a_put (pc := 37) (φ := 505) X Z.1.2.1 Z.1.2.2.1 (gw X.1 X.2.1 q924) (fun _ q => q) (by decide) rfl rfl dX8_copy_37 hf (fun h hf => ?_)
  refine a_aload_n (pc := 40) X dX8_copy_40 rfl hl 0 rfl ?_
  refine a_aload_n (pc := 41) X dX8_copy_41 rfl hl 1 rfl ?_
  refine a_get (pc := 42) (φ := 506) pI_t X Z.1.2.1 (gw X.1 X.2.1 q927) (fun _ q => q) (by decide) dX8_copy_42 hf (fun x42 hf => ?_)
  refine a_put (pc := 45) (φ := 506) X Z.1.2.1 Z.1.2.2.1 (gw X.1 X.2.1 q927) (fun _ q => q) (by decide) rfl rfl dX8_copy_45 hf (fun h hf => ?_)
  refine a_aload_n (pc := 48) X dX8_copy_48 rfl hl 0 rfl ?_
  refine a_aload_n (pc := 49) X dX8_copy_49 rfl hl 1 rfl ?_
  refine a_get (pc := 50) (φ := 507) pI_t X Z.1.2.1 (gw X.1 X.2.1 q930) (fun _ q => q) (by decide) dX8_copy_50 hf (fun x50 hf => ?_)
  refine a_put (pc := 53) (φ := 507) X Z.1.2.1 Z.1.2.2.1 (gw X.1 X.2.1 q930) (fun _ q => q) (by decide) rfl rfl dX8_copy_53 hf (fun h hf => ?_)
  refine a_aload_n (pc := 56) X dX8_copy_56 rfl hl 0 rfl ?_
  exact a_areturn X Z.2.2.1 (Or.inl ⟨_, rfl⟩) Z.2.2.2.1 dX8_copy_57 hf
theorem np_X9_init : npar yX9_init.desc 4 := by unfold npar; decide +kernel
theorem hy_X9_init : yX9_init.cls ≠ "java/lang/invoke/MethodHandle" ∧ yX9_init.cls ≠ "java/lang/invoke/VarHandle" := by decide +kernel
theorem w_X9_init (GA : GA l s0 a0 K lam) (v0 : Option Nat) (v1 : Int32) (v2 : Int32) (v3 : Int32) (v4 : Int32) : AMet l s0 K lam yX9_init (Cond.code yX9_init cX9_init (5 : Nat) (Option.none : Option ClassFile.FieldType)) 1 20 [vR v0, vI v1, vI v2, vI v3, vI v4] oV (f_X9_init K v0 v1 v2 v3 v4) := by
  refine AMet.of GA.1 (plainFor_of_name (by decide +kernel)) (Nat.le_of_ble_eq_true rfl) ?_
  intro b r hf p e s m args below meth c X hr hlk hnm hnd ht ls hl
  have Z : WZ l s0 a0 K p s m c cX9_init yX9_init.cls 5 b { frames := 1, cells := K 0 - aX b, slots := K 1 - aW b, locals := 20 } 1 20 meth [] none yX9_init := ⟨⟨X, GA.2.1, GA.2.2.1, rfl, rfl, Nat.le_refl _, Nat.le_refl _⟩, tab_nil ht, hr, hlk, hnm, hnd⟩
  unfold f_X9_init at hf
  clear hr hlk hnm hnd ht
  refine a_aload_n (pc := 0) X dX9_init_0 rfl hl 0 rfl ?_
  obtain ⟨a1, rfl, hf⟩ := nz_some hf
  refine a_objInit (pc := 1) (rs := []) Z.1 q960 q144 q145 (by decide) (by decide) hl.1 (Nat.le_of_ble_eq_true rfl) dX9_init_1 ?_
  refine AW.eq (g2 := F0 m 4 ls []) rfl ?_
  refine a_aload_n (pc := 4) X dX9_init_4 rfl hl 0 rfl ?_
  refine a_iload_n (pc := 5) X dX9_init_5 rfl hl 1 rfl ?_
  refine a_putF (pc := 6) (φ := 600) X Z.1.2.1 Z.1.2.2.1 (gw X.1 X.2.1 q961) (fun _ q => q) (by decide) rfl Z.2.2.2.2.1 rfl rfl dX9_init_6 hf (fun h hf => ?_)
  refine a_aload_n (pc := 9) X dX9_init_9 rfl hl 0 rfl ?_
  refine a_iload_n (pc := 10) X dX9_init_10 rfl hl 2 rfl ?_
  refine a_putF (pc := 11) (φ := 601) X Z.1.2.1 Z.1.2.2.1 (gw X.1 X.2.1 q964) (fun _ q => q) (by decide) rfl Z.2.2.2.2.1 rfl rfl dX9_init_11 hf (fun h hf => ?_)
  refine a_aload_n (pc := 14) X dX9_init_14 rfl hl 0 rfl ?_
  refine a_iload_n (pc := 15) X dX9_init_15 rfl hl 3 rfl ?_
  refine a_putF (pc := 16) (φ := 602) X Z.1.2.1 Z.1.2.2.1 (gw X.1 X.2.1 q967) (fun _ q => q) (by decide) rfl Z.2.2.2.2.1 rfl rfl dX9_init_16 hf (fun h hf => ?_)
  refine a_aload_n (pc := 19) X dX9_init_19 rfl hl 0 rfl ?_
  refine a_iload (pc := 20) X dX9_init_20 hl 4 rfl ?_
  refine a_putF (pc := 22) (φ := 603) X Z.1.2.1 Z.1.2.2.1 (gw X.1 X.2.1 q969) (fun _ q => q) (by decide) rfl Z.2.2.2.2.1 rfl rfl dX9_init_22 hf (fun h hf => ?_)
  exact a_return X Z.2.2.1 Z.2.2.2.1 dX9_init_25 hf
theorem np_X9_copy : npar yX9_copy.desc 0 := by unfold npar; decide +kernel
theorem hy_X9_copy : yX9_copy.cls ≠ "java/lang/invoke/MethodHandle" ∧ yX9_copy.cls ≠ "java/lang/invoke/VarHandle" := by decide +kernel
theorem w_X9_copy (GA : GA l s0 a0 K lam) (v0 : Option Nat) : AMet l s0 K lam yX9_copy (Cond.code yX9_copy cX9_copy (2 : Nat) (Option.some (ClassFile.FieldType.object "JumpHall$Party"))) 2 44 [vR v0] oR (f_X9_copy K v0) := by
  refine AMet.of GA.1 (plainFor_of_name (by decide +kernel)) (Nat.le_of_ble_eq_true rfl) ?_
  intro b r hf p e s m args below meth c X hr hlk hnm hnd ht ls hl
  have Z : WZ l s0 a0 K p s m c cX9_copy yX9_copy.cls 2 b { frames := 2, cells := K 0 - aX b, slots := K 1 - aW b, locals := 44 } 2 44 meth [] (some (.object "JumpHall$Party")) yX9_copy := ⟨⟨X, GA.2.1, GA.2.2.1, rfl, rfl, Nat.le_refl _, Nat.le_refl _⟩, tab_nil ht, hr, hlk, hnm, hnd⟩
  unfold f_X9_copy at hf
  clear hr hlk hnm hnd ht
  refine a_new (pc := 0) (cK := 6) (n := 6) X Z.1.2.1 Z.1.2.2.1 Z.1.2.2.2.1 Z.1.2.2.2.2.1 ⟨by decide, by decide, by decide⟩ (gw X.1 X.2.1 q955) (gw X.1 X.2.1 q956) (gw X.1 X.2.1 q108) dX9_copy_0 hf (fun x0 h hf => ?_)
  refine AW.lift (fun _ _ _ _ k => lv_dup (pc := 3) X.2.2.1 X.2.2.2.1 dX9_copy_3 (cat_rf _) k) ?_
  refine a_aload_n (pc := 4) X dX9_copy_4 rfl hl 0 rfl ?_
  refine a_get (pc := 5) (φ := 600) pI_t X Z.1.2.1 (gw X.1 X.2.1 q961) (fun _ q => q) (by decide) dX9_copy_5 hf (fun x5 hf => ?_)
  refine a_aload_n (pc := 8) X dX9_copy_8 rfl hl 0 rfl ?_
  refine a_get (pc := 9) (φ := 601) pI_t X Z.1.2.1 (gw X.1 X.2.1 q964) (fun _ q => q) (by decide) dX9_copy_9 hf (fun x9 hf => ?_)
  refine a_aload_n (pc := 12) X dX9_copy_12 rfl hl 0 rfl ?_
  refine a_get (pc := 13) (φ := 602) pI_t X Z.1.2.1 (gw X.1 X.2.1 q967) (fun _ q => q) (by decide) dX9_copy_13 hf (fun x13 hf => ?_)
  refine a_aload_n (pc := 16) X dX9_copy_16 rfl hl 0 rfl ?_
  refine a_get (pc := 17) (φ := 603) pI_t X Z.1.2.1 (gw X.1 X.2.1 q969) (fun _ q => q) (by decide) dX9_copy_17 hf (fun x17 hf => ?_)
  refine a_callb (pc := 20) (rs := [vR (some x0)]) (avs := [vR (some x0), vI x5, vI x9, vI x13, vI x17]) Z.1 (w_X9_init GA (some x0) x5 x9 x13 x17) (Or.inl rfl) q959 q108 (by decide) (by decide) dX9_copy_20 hl.1 (Nat.le_of_ble_eq_true rfl) hf (ct_I X q959 q957 q958 rfl hy_X9_init np_X9_init rfl dX9_copy_20) (fun q h he hX => a_out (unc_of Z.2.1 rfl) Z.2.2.2.1 he hX) (fun _ h hf => ?kk20)
  refine AW.eq (g2 := F0 m 23 ls [va_rf (some x0)]) rfl ?_
  refine a_astore_n (pc := 23) X dX9_copy_23 rfl hl (by decide) (lv' := [(1, vR (some x0)), (0, vR v0)]) rfl (fun ls hl => ?_)
  refine a_aload_n (pc := 24) X dX9_copy_24 rfl hl 0 rfl ?_
  refine a_aload_n (pc := 25) X dX9_copy_25 rfl hl 1 rfl ?_
  refine a_get (pc := 26) (φ := 604) pI_t X Z.1.2.1 (gw X.1 X.2.1 q971) (fun _ q => q) (by decide) dX9_copy_26 hf (fun x26 hf => ?_)
  refine a_put (pc := 29) (φ := 604) X Z.1.2.1 Z.1.2.2.1 (gw X.1 X.2.1 q971) (fun _ q => q) (by decide) rfl rfl dX9_copy_29 hf (fun h hf => ?_)
  refine a_aload_n (pc := 32) X dX9_copy_32 rfl hl 0 rfl ?_
  refine a_aload_n (pc := 33) X dX9_copy_33 rfl hl 1 rfl ?_
  refine a_get (pc := 34) (φ := 605) pI_t X Z.1.2.1 (gw X.1 X.2.1 q974) (fun _ q => q) (by decide) dX9_copy_34 hf (fun x34 hf => ?_)
  refine a_put (pc := 37) (φ := 605) X Z.1.2.1 Z.1.2.2.1 (gw X.1 X.2.1 q974) (fun _ q => q) (by decide) rfl rfl dX9_copy_37 hf (fun h hf => ?_)
  refine a_aload_n (pc := 40) X dX9_copy_40 rfl hl 0 rfl ?_
  exact a_areturn X Z.2.2.1 (Or.inl ⟨_, rfl⟩) Z.2.2.2.1 dX9_copy_41 hf
theorem np_J2_toArray : npar yJ2_toArray.desc 0 := by unfold npar; decide +kernel
theorem hy_J2_toArray : yJ2_toArray.cls ≠ "java/lang/invoke/MethodHandle" ∧ yJ2_toArray.cls ≠ "java/lang/invoke/VarHandle" := by decide +kernel
theorem w_J2_toArray (GA : GA l s0 a0 K lam) (v0 : Option Nat) : AMet l s0 K lam yJ2_toArray (Cond.code yJ2_toArray cJ2_toArray (1 : Nat) (Option.some (ClassFile.FieldType.array (ClassFile.FieldType.object "java/lang/Object")))) 3 92 [vR v0] oR (f_J2_toArray K v0) := by
  refine AMet.of GA.1 (plainFor_of_name (by decide +kernel)) (Nat.le_of_ble_eq_true rfl) ?_
  intro b r hf p e s m args below meth c X hr hlk hnm hnd ht ls hl
  have Z : WZ l s0 a0 K p s m c cJ2_toArray yJ2_toArray.cls 1 b { frames := 3, cells := K 0 - aX b, slots := K 1 - aW b, locals := 92 } 3 92 meth [] (some (.array (.object "java/lang/Object"))) yJ2_toArray := ⟨⟨X, GA.2.1, GA.2.2.1, rfl, rfl, Nat.le_refl _, Nat.le_refl _⟩, tab_nil ht, hr, hlk, hnm, hnd⟩
  unfold f_J2_toArray at hf
  clear hr hlk hnm hnd ht
  refine a_aload_n (pc := 0) X dJ2_toArray_0 rfl hl 0 rfl ?_
  refine a_get (pc := 1) (φ := 2500) pR_t X Z.1.2.1 (gw X.1 X.2.1 q166) (fun _ q => q) (by decide) dJ2_toArray_1 hf (fun x1 hf => ?_)
  refine a_aload_n (pc := 4) X dJ2_toArray_4 rfl hl 0 rfl ?_
  refine a_get (pc := 5) (φ := 2501) pI_t X Z.1.2.1 (gw X.1 X.2.1 q169) (fun _ q => q) (by decide) dJ2_toArray_5 hf (fun x5 hf => ?_)
  refine a_callb (pc := 8) (rs := []) (avs := [vR x1, vI x5]) Z.1 (w_J13_copyOf_2 GA x1 x5) (Or.inl rfl) q850 q94 (by decide) (by decide) dJ2_toArray_8 hl.1 (Nat.le_of_ble_eq_true rfl) hf (ct_S X (Or.inl rfl) q850 q94 q848 q849 hy_J13_copyOf_2 np_J13_copyOf_2 rfl dJ2_toArray_8) (fun q h he hX => a_out (unc_of Z.2.1 rfl) Z.2.2.2.1 he hX) (fun x8 h hf => ?kk8)
  refine AW.eq (g2 := F0 m 11 ls [va_rf x8]) rfl ?_
  exact a_areturn X Z.2.2.1 (Or.inr ⟨_, rfl⟩) Z.2.2.2.1 dJ2_toArray_11 hf
end WK
