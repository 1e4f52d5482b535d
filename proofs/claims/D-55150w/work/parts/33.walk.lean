section WK
variable {l : Launch} {s0 : State} {a0 : Array Value} {K : Nat → Nat} {lam : Nat → ClassId}
variable {p : Program} {e : Env} {R : Room} {s : State} {m : MethodId} {args : Array Value} {below : List Frame} {meth : Method} {c : Code} {b : AH}
theorem np_J2_size : npar yJ2_size.desc 0 := by unfold npar; decide +kernel
theorem hy_J2_size : yJ2_size.cls ≠ "java/lang/invoke/MethodHandle" ∧ yJ2_size.cls ≠ "java/lang/invoke/VarHandle" := by decide +kernel
theorem w_J2_size (GA : GA l s0 a0 K lam) (v0 : Option Nat) : AMet l s0 K lam yJ2_size (Cond.code yJ2_size cJ2_size (1 : Nat) (Option.some ClassFile.FieldType.int)) 0 0 [vR v0] oI (f_J2_size K v0) := by
  refine AMet.of GA.1 (plainFor_of_name (by decide +kernel)) (Nat.le_of_ble_eq_true rfl) ?_
  intro b r hf p e s m args below meth c X hr hlk hnm hnd ht ls hl
  have Z : WZ l s0 a0 K p s m c cJ2_size yJ2_size.cls 1 b { frames := 0, cells := K 0 - aX b, slots := K 1 - aW b, locals := 0 } 0 0 meth [] (some (.int)) yJ2_size := ⟨⟨X, GA.2.1, GA.2.2.1, rfl, rfl, Nat.le_refl _, Nat.le_refl _⟩, tab_nil ht, hr, hlk, hnm, hnd⟩
  unfold f_J2_size at hf
  clear hr hlk hnm hnd ht
  refine a_aload_n (pc := 0) X dJ2_size_0 rfl hl 0 rfl ?_
  refine a_get (pc := 1) (φ := 2501) pI_t X Z.1.2.1 (gw X.1 X.2.1 q169) (fun _ q => q) (by decide) dJ2_size_1 hf (fun x1 hf => ?_)
  exact a_ireturn X Z.2.2.1 Z.2.2.2.1 dJ2_size_4 hf
theorem np_X5_init : npar yX5_init.desc 2 := by unfold npar; decide +kernel
theorem hy_X5_init : yX5_init.cls ≠ "java/lang/invoke/MethodHandle" ∧ yX5_init.cls ≠ "java/lang/invoke/VarHandle" := by decide +kernel
theorem w_X5_init (GA : GA l s0 a0 K lam) (v0 : Option Nat) (v1 : Int32) (v2 : Int32) : AMet l s0 K lam yX5_init (Cond.code yX5_init cX5_init (3 : Nat) (Option.none : Option ClassFile.FieldType)) 6 360 [vR v0, vI v1, vI v2] oV (f_X5_init K v0 v1 v2) := by
  refine AMet.of GA.1 (plainFor_of_name (by decide +kernel)) (Nat.le_of_ble_eq_true rfl) ?_
  intro b r hf p e s m args below meth c X hr hlk hnm hnd ht ls hl
  have Z : WZ l s0 a0 K p s m c cX5_init yX5_init.cls 3 b { frames := 6, cells := K 0 - aX b, slots := K 1 - aW b, locals := 360 } 6 360 meth [] none yX5_init := ⟨⟨X, GA.2.1, GA.2.2.1, rfl, rfl, Nat.le_refl _, Nat.le_refl _⟩, tab_nil ht, hr, hlk, hnm, hnd⟩
  unfold f_X5_init at hf
  clear hr hlk hnm hnd ht
  refine a_aload_n (pc := 0) X dX5_init_0 rfl hl 0 rfl ?_
  obtain ⟨a1, rfl, hf⟩ := nz_some hf
  refine a_callb (pc := 1) (rs := []) (avs := [vR (some a1)]) Z.1 (w_J10_init GA (some a1)) (Or.inl rfl) q459 q88 (by decide) (by decide) dX5_init_1 hl.1 (Nat.le_of_ble_eq_true rfl) hf (ct_I X q459 q1739 q458 rfl hy_J10_init np_J10_init rfl dX5_init_1) (fun q h he hX => a_out (unc_of Z.2.1 rfl) Z.2.2.2.1 he hX) (fun _ h hf => ?kk1)
  refine AW.eq (g2 := F0 m 4 ls []) rfl ?_
  refine a_aload_n (pc := 4) X dX5_init_4 rfl hl 0 rfl ?_
  refine a_iload_n (pc := 5) X dX5_init_5 rfl hl 1 rfl ?_
  refine a_putF (pc := 6) (φ := 1100) X Z.1.2.1 Z.1.2.2.1 (gw X.1 X.2.1 q1740) (fun _ q => q) (by decide) rfl Z.2.2.2.2.1 rfl rfl dX5_init_6 hf (fun h hf => ?_)
  refine a_aload_n (pc := 9) X dX5_init_9 rfl hl 0 rfl ?_
  refine a_iload_n (pc := 10) X dX5_init_10 rfl hl 2 rfl ?_
  refine a_putF (pc := 11) (φ := 1101) X Z.1.2.1 Z.1.2.2.1 (gw X.1 X.2.1 q1742) (fun _ q => q) (by decide) rfl Z.2.2.2.2.1 rfl rfl dX5_init_11 hf (fun h hf => ?_)
  exact a_return X Z.2.2.1 Z.2.2.2.1 dX5_init_14 hf
theorem np_X6_init : npar yX6_init.desc 2 := by unfold npar; decide +kernel
theorem hy_X6_init : yX6_init.cls ≠ "java/lang/invoke/MethodHandle" ∧ yX6_init.cls ≠ "java/lang/invoke/VarHandle" := by decide +kernel
theorem w_X6_init (GA : GA l s0 a0 K lam) (v0 : Option Nat) (v1 : Int32) (v2 : Int32) : AMet l s0 K lam yX6_init (Cond.code yX6_init cX6_init (3 : Nat) (Option.none : Option ClassFile.FieldType)) 7 382 [vR v0, vI v1, vI v2] oV (f_X6_init K v0 v1 v2) := by
  refine AMet.of GA.1 (plainFor_of_name (by decide +kernel)) (Nat.le_of_ble_eq_true rfl) ?_
  intro b r hf p e s m args below meth c X hr hlk hnm hnd ht ls hl
  have Z : WZ l s0 a0 K p s m c cX6_init yX6_init.cls 3 b { frames := 7, cells := K 0 - aX b, slots := K 1 - aW b, locals := 382 } 7 382 meth [] none yX6_init := ⟨⟨X, GA.2.1, GA.2.2.1, rfl, rfl, Nat.le_refl _, Nat.le_refl _⟩, tab_nil ht, hr, hlk, hnm, hnd⟩
  unfold f_X6_init at hf
  clear hr hlk hnm hnd ht
  refine a_aload_n (pc := 0) X dX6_init_0 rfl hl 0 rfl ?_
  refine a_iload_n (pc := 1) X dX6_init_1 rfl hl 1 rfl ?_
  refine a_iload_n (pc := 2) X dX6_init_2 rfl hl 2 rfl ?_
  obtain ⟨a3, rfl, hf⟩ := nz_some hf
  refine a_callb (pc := 3) (rs := []) (avs := [vR (some a3), vI v1, vI v2]) Z.1 (w_X5_init GA (some a3) v1 v2) (Or.inl rfl) q1738 q89 (by decide) (by decide) dX6_init_3 hl.1 (Nat.le_of_ble_eq_true rfl) hf (ct_I X q1738 q1736 q1737 rfl hy_X5_init np_X5_init rfl dX6_init_3) (fun q h he hX => a_out (unc_of Z.2.1 rfl) Z.2.2.2.1 he hX) (fun _ h hf => ?kk3)
  refine AW.eq (g2 := F0 m 6 ls []) rfl ?_
  exact a_return X Z.2.2.1 Z.2.2.2.1 dX6_init_6 hf
theorem np_X1_refuse : npar yX1_refuse.desc 3 := by unfold npar; decide +kernel
theorem hy_X1_refuse : yX1_refuse.cls ≠ "java/lang/invoke/MethodHandle" ∧ yX1_refuse.cls ≠ "java/lang/invoke/VarHandle" := by decide +kernel
theorem w_X1_refuse (GA : GA l s0 a0 K lam) (v0 : Int32) (v1 : Int32) (v2 : Int32) : AMet l s0 K lam yX1_refuse (Cond.code yX1_refuse cX1_refuse (3 : Nat) (Option.none : Option ClassFile.FieldType)) 8 404 [vI v0, vI v1, vI v2] oV (f_X1_refuse K v0 v1 v2) := by
  refine AMet.of GA.1 (plainFor_of_name (by decide +kernel)) (Nat.le_of_ble_eq_true rfl) ?_
  intro b r hf p e s m args below meth c X hr hlk hnm hnd ht ls hl
  have Z : WZ l s0 a0 K p s m c cX1_refuse yX1_refuse.cls 3 b { frames := 8, cells := K 0 - aX b, slots := K 1 - aW b, locals := 404 } 8 404 meth [] none yX1_refuse := ⟨⟨X, GA.2.1, GA.2.2.1, rfl, rfl, Nat.le_refl _, Nat.le_refl _⟩, tab_nil ht, hr, hlk, hnm, hnd⟩
  unfold f_X1_refuse at hf
  clear hr hlk hnm hnd ht
  refine a_iload_n (pc := 0) X dX1_refuse_0 rfl hl 0 rfl ?_
  refine AW.lift2 (fun _ _ _ _ k1 k2 => lv_if_eq (pc := 1) (tgt := 14) X.2.2.1 X.2.2.2.1 dX1_refuse_1 rfl k1 k2) (fun c => ?_) (fun c => ?_)
  · have hf := ite_t c hf
    exact a_return X Z.2.2.1 Z.2.2.2.1 dX1_refuse_14 hf
  · have hf := ite_f c hf
    refine a_new (pc := 4) (cK := 12) (n := 8) X Z.1.2.1 Z.1.2.2.1 Z.1.2.2.2.1 Z.1.2.2.2.2.1 ⟨by decide, by decide, by decide⟩ (gw X.1 X.2.1 q1724) (gw X.1 X.2.1 q1725) (gw X.1 X.2.1 q90) dX1_refuse_4 hf (fun x4 h hf => ?_)
    refine AW.lift (fun _ _ _ _ k => lv_dup (pc := 7) X.2.2.1 X.2.2.2.1 dX1_refuse_7 (cat_rf _) k) ?_
    refine a_iload_n (pc := 8) X dX1_refuse_8 rfl hl 1 rfl ?_
    refine a_iload_n (pc := 9) X dX1_refuse_9 rfl hl 2 rfl ?_
    refine a_callb (pc := 10) (rs := [vR (some x4)]) (avs := [vR (some x4), vI v1, vI v2]) Z.1 (w_X6_init GA (some x4) v1 v2) (Or.inl rfl) q1735 q90 (by decide) (by decide) dX1_refuse_10 hl.1 (Nat.le_of_ble_eq_true rfl) hf (ct_I X q1735 q1733 q1734 rfl hy_X6_init np_X6_init rfl dX1_refuse_10) (fun q h he hX => a_out (unc_of Z.2.1 rfl) Z.2.2.2.1 he hX) (fun _ h hf => ?kk10)
    refine AW.eq (g2 := F0 m 13 ls [va_rf (some x4)]) rfl ?_
    exact a_athrow X dX1_refuse_13 hf (fun q e he hX => a_out (unc_of Z.2.1 rfl) Z.2.2.2.1 he hX)
theorem w_X2_addMat_j17 {r : Except Nat (Int32) × AH} (GA : GA l s0 a0 K lam) (Z : WZ l s0 a0 K p s m c cX2_addMat yX2_addMat.cls 1 b R 9 426 meth [] (some (.int)) yX2_addMat) (v0 : Option Nat) (t0 : Int32)  {h : AH} {ls : Array Slot} (hl : LV ls 1 [(0, vR v0)]) (hf : f_X2_addMat_j17 K v0 t0 h = some r) : AW s0 K lam p l e R s m args below meth c (AQ s0 K lam below oI b r s) b h (F0 m 17 ls [.int t0]) := by
  unfold f_X2_addMat_j17 at hf
  have X := Z.1.1
  refine AW.lift (fun _ _ _ _ k => lv_iconst (pc := 17) (v := (1 : Int32)) X.2.2.1 X.2.2.2.1 dX2_addMat_17 rfl k) ?_
  refine AW.lift (fun _ _ _ _ k => lv_bipush (pc := 18) (v := (6 : Int32)) X.2.2.1 X.2.2.2.1 dX2_addMat_18 rfl k) ?_
  refine a_callb (pc := 20) (rs := []) (avs := [vI t0, vI (1 : Int32), vI (6 : Int32)]) Z.1 (w_X1_refuse GA t0 (1 : Int32) (6 : Int32)) (Or.inl rfl) q1723 q74 (by decide) (by decide) dX2_addMat_20 hl.1 (Nat.le_of_ble_eq_true rfl) hf (ct_SN X (Or.inl rfl) q1723 q74 q1721 q1722 hy_X1_refuse np_X1_refuse rfl dX2_addMat_20) (fun q h he hX => a_out (unc_of Z.2.1 rfl) Z.2.2.2.1 he hX) (fun _ h hf => ?kk20)
  refine AW.eq (g2 := F0 m 23 ls []) rfl ?_
  refine a_aload_n (pc := 23) X dX2_addMat_23 rfl hl 0 rfl ?_
  refine a_get (pc := 24) (φ := 300) pR_t X Z.1.2.1 (gw X.1 X.2.1 q228) (fun _ q => q) (by decide) dX2_addMat_24 hf (fun x24 hf => ?_)
  refine a_new (pc := 27) (cK := 4) (n := 3) X Z.1.2.1 Z.1.2.2.1 Z.1.2.2.2.1 Z.1.2.2.2.2.1 ⟨by decide, by decide, by decide⟩ (gw X.1 X.2.1 q802) (gw X.1 X.2.1 q808) (gw X.1 X.2.1 q91) dX2_addMat_27 hf (fun x27 h hf => ?_)
  refine AW.lift (fun _ _ _ _ k => lv_dup (pc := 30) X.2.2.1 X.2.2.2.1 dX2_addMat_30 (cat_rf _) k) ?_
  refine a_callb (pc := 31) (rs := [vR (some x27), vR x24]) (avs := [vR (some x27)]) Z.1 (w_X7_init GA (some x27)) (Or.inl rfl) q811 q91 (by decide) (by decide) dX2_addMat_31 hl.1 (Nat.le_of_ble_eq_true rfl) hf (ct_IN X q811 q1750 q810 rfl hy_X7_init np_X7_init rfl dX2_addMat_31) (fun q h he hX => a_out (unc_of Z.2.1 rfl) Z.2.2.2.1 he hX) (fun _ h hf => ?kk31)
  refine AW.eq (g2 := F0 m 34 ls [va_rf (some x27), va_rf x24]) rfl ?_
  obtain ⟨a34, rfl, ⟨hk, hf⟩ | ⟨-, hf⟩⟩ := dv_some hf
  rotate_left
  · exact fl_none hf
  refine a_callb (pc := 34) (rs := []) (avs := [vR (some a34), vR (some x27)]) Z.1 (w_J2_add GA (some a34) (some x27)) (Or.inl rfl) q834 q78 (by decide) (by decide) dX2_addMat_34 hl.1 (Nat.le_of_ble_eq_true rfl) hf (ct_V hk ⟨by decide, by decide⟩ X (Or.inl rfl) q834 q831 q832 q833 hy_J2_add np_J2_add rfl dX2_addMat_34) (fun q h he hX => a_out (unc_of Z.2.1 rfl) Z.2.2.2.1 he hX) (fun x34 h hf => ?kk34)
  refine AW.eq (g2 := F0 m 37 ls [.int x34]) rfl ?_
  refine AW.lift (fun _ _ _ _ k => lv_pop (pc := 37) X.2.2.1 X.2.2.2.1 dX2_addMat_37 rfl k) ?_
  refine a_aload_n (pc := 38) X dX2_addMat_38 rfl hl 0 rfl ?_
  refine a_get (pc := 39) (φ := 300) pR_t X Z.1.2.1 (gw X.1 X.2.1 q228) (fun _ q => q) (by decide) dX2_addMat_39 hf (fun x39 hf => ?_)
  obtain ⟨a42, rfl, ⟨hk, hf⟩ | ⟨-, hf⟩⟩ := dv_some hf
  rotate_left
  · exact fl_none hf
  refine a_callb (pc := 42) (rs := []) (avs := [vR (some a42)]) Z.1 (w_J2_size GA (some a42)) (Or.inl rfl) q1012 q78 (by decide) (by decide) dX2_addMat_42 hl.1 (Nat.le_of_ble_eq_true rfl) hf (ct_V hk ⟨by decide, by decide⟩ X (Or.inl rfl) q1012 q1720 q1011 q3486 hy_J2_size np_J2_size rfl dX2_addMat_42) (fun q h he hX => a_out (unc_of Z.2.1 rfl) Z.2.2.2.1 he hX) (fun x42 h hf => ?kk42)
  refine AW.eq (g2 := F0 m 45 ls [.int x42]) rfl ?_
  refine AW.lift (fun _ _ _ _ k => lv_iconst (pc := 45) (v := (1 : Int32)) X.2.2.1 X.2.2.2.1 dX2_addMat_45 rfl k) ?_
  refine AW.lift (fun _ _ _ _ k => lv_isub (pc := 46) X.2.2.1 X.2.2.2.1 dX2_addMat_46 k) ?_
  exact a_ireturn X Z.2.2.1 Z.2.2.2.1 dX2_addMat_47 hf
theorem np_X2_addMat : npar yX2_addMat.desc 0 := by unfold npar; decide +kernel
theorem hy_X2_addMat : yX2_addMat.cls ≠ "java/lang/invoke/MethodHandle" ∧ yX2_addMat.cls ≠ "java/lang/invoke/VarHandle" := by decide +kernel
theorem w_X2_addMat (GA : GA l s0 a0 K lam) (v0 : Option Nat) : AMet l s0 K lam yX2_addMat (Cond.code yX2_addMat cX2_addMat (1 : Nat) (Option.some ClassFile.FieldType.int)) 9 426 [vR v0] oI (f_X2_addMat K v0) := by
  refine AMet.of GA.1 (plainFor_of_name (by decide +kernel)) (Nat.le_of_ble_eq_true rfl) ?_
  intro b r hf p e s m args below meth c X hr hlk hnm hnd ht ls hl
  have Z : WZ l s0 a0 K p s m c cX2_addMat yX2_addMat.cls 1 b { frames := 9, cells := K 0 - aX b, slots := K 1 - aW b, locals := 426 } 9 426 meth [] (some (.int)) yX2_addMat := ⟨⟨X, GA.2.1, GA.2.2.1, rfl, rfl, Nat.le_refl _, Nat.le_refl _⟩, tab_nil ht, hr, hlk, hnm, hnd⟩
  unfold f_X2_addMat at hf
  clear hr hlk hnm hnd ht
  refine a_aload_n (pc := 0) X dX2_addMat_0 rfl hl 0 rfl ?_
  refine a_get (pc := 1) (φ := 300) pR_t X Z.1.2.1 (gw X.1 X.2.1 q228) (fun _ q => q) (by decide) dX2_addMat_1 hf (fun x1 hf => ?_)
  obtain ⟨a4, rfl, ⟨hk, hf⟩ | ⟨-, hf⟩⟩ := dv_some hf
  rotate_left
  · exact fl_none hf
  refine a_callb (pc := 4) (rs := []) (avs := [vR (some a4)]) Z.1 (w_J2_size GA (some a4)) (Or.inl rfl) q1012 q78 (by decide) (by decide) dX2_addMat_4 hl.1 (Nat.le_of_ble_eq_true rfl) hf (ct_V hk ⟨by decide, by decide⟩ X (Or.inl rfl) q1012 q1720 q1011 q3486 hy_J2_size np_J2_size rfl dX2_addMat_4) (fun q h he hX => a_out (unc_of Z.2.1 rfl) Z.2.2.2.1 he hX) (fun x4 h hf => ?kk4)
  refine AW.eq (g2 := F0 m 7 ls [.int x4]) rfl ?_
  refine AW.lift (fun _ _ _ _ k => lv_bipush (pc := 7) (v := (6 : Int32)) X.2.2.1 X.2.2.2.1 dX2_addMat_7 rfl k) ?_
  refine AW.lift2 (fun _ _ _ _ k1 k2 => lv_icmp_ne (pc := 9) (tgt := 16) X.2.2.1 X.2.2.2.1 dX2_addMat_9 rfl k2 k1) (fun c => ?_) (fun c => ?_)
  · have hf := ite_t c hf
    refine AW.lift (fun _ _ _ _ k => lv_iconst (pc := 12) (v := (1 : Int32)) X.2.2.1 X.2.2.2.1 dX2_addMat_12 rfl k) ?_
    refine AW.lift (fun _ _ _ _ k => lv_goto (pc := 13) (tgt := 17) X.2.2.1 X.2.2.2.1 dX2_addMat_13 rfl k) ?_
    exact w_X2_addMat_j17 GA Z v0 (1 : Int32)  (hl.sub [0] rfl) hf
  · have hf := ite_f c hf
    refine AW.lift (fun _ _ _ _ k => lv_iconst (pc := 16) (v := (0 : Int32)) X.2.2.1 X.2.2.2.1 dX2_addMat_16 rfl k) ?_
    exact w_X2_addMat_j17 GA Z v0 (0 : Int32)  (hl.sub [0] rfl) hf
theorem np_X1_lambda_mat_0 : npar yX1_lambda_mat_0.desc 1 := by unfold npar; decide +kernel
theorem hy_X1_lambda_mat_0 : yX1_lambda_mat_0.cls ≠ "java/lang/invoke/MethodHandle" ∧ yX1_lambda_mat_0.cls ≠ "java/lang/invoke/VarHandle" := by decide +kernel
theorem w_X1_lambda_mat_0 (GA : GA l s0 a0 K lam) (v0 : Option Nat) : AMet l s0 K lam yX1_lambda_mat_0 (Cond.code yX1_lambda_mat_0 cX1_lambda_mat_0 (1 : Nat) (Option.some ClassFile.FieldType.int)) 10 446 [vR v0] oI (f_X1_lambda_mat_0 K v0) := by
  refine AMet.of GA.1 (plainFor_of_name (by decide +kernel)) (Nat.le_of_ble_eq_true rfl) ?_
  intro b r hf p e s m args below meth c X hr hlk hnm hnd ht ls hl
  have Z : WZ l s0 a0 K p s m c cX1_lambda_mat_0 yX1_lambda_mat_0.cls 1 b { frames := 10, cells := K 0 - aX b, slots := K 1 - aW b, locals := 446 } 10 446 meth [] (some (.int)) yX1_lambda_mat_0 := ⟨⟨X, GA.2.1, GA.2.2.1, rfl, rfl, Nat.le_refl _, Nat.le_refl _⟩, tab_nil ht, hr, hlk, hnm, hnd⟩
  unfold f_X1_lambda_mat_0 at hf
  clear hr hlk hnm hnd ht
  refine a_aload_n (pc := 0) X dX1_lambda_mat_0_0 rfl hl 0 rfl ?_
  obtain ⟨a1, rfl, ⟨hk, hf⟩ | ⟨-, hf⟩⟩ := dv_some hf
  rotate_left
  · exact fl_none hf
  refine a_callb (pc := 1) (rs := []) (avs := [vR (some a1)]) Z.1 (w_X2_addMat GA (some a1)) (Or.inl rfl) q1719 q75 (by decide) (by decide) dX1_lambda_mat_0_1 hl.1 (Nat.le_of_ble_eq_true rfl) hf (ct_V hk ⟨by decide, by decide⟩ X (Or.inl rfl) q1719 q1716 q1717 q1718 hy_X2_addMat np_X2_addMat rfl dX1_lambda_mat_0_1) (fun q h he hX => a_out (unc_of Z.2.1 rfl) Z.2.2.2.1 he hX) (fun x1 h hf => ?kk1)
  refine AW.eq (g2 := F0 m 4 ls [.int x1]) rfl ?_
  exact a_ireturn X Z.2.2.1 Z.2.2.2.1 dX1_lambda_mat_0_4 hf
theorem cl_201 {Q : State → Prop} {h : AH} {cc : ByteArray} {own : String} {nL pc : Nat} {ls : Array Slot} {st : List Value} {F Lo idx cnt a : Nat} {v : Option Nat} {rs : List TV} (X : WX l s0 a0 K p s m c cc own nL b R F Lo) (GA : GA l s0 a0 K lam) (hk : aK h a = 201) (hlink : Cond.methodLink own idx ({ cls := "JumpHall$Deed", name := "in", desc := "(LJumpHall$Hall;)I" } : MethodName) ∈ lw_all) (hF : 12 ≤ F) (hLo : 495 ≤ Lo) (hsz : ls.size = nL) (hW8 : (rs.map tcat).sum ≤ 8) (hst : st = va_rf v :: .ref a :: rs.map tvv) (hdg : decode cc pc = .ok (.invokeinterface idx cnt, 5)) : LC s0 K lam p l e R s m args below meth c Q b h pc ls (rs.map tvv) st (c_lam201 K (some a) v) := by
  intro r1 hf kk kx
  unfold c_lam201 at hf
  refine lam_core (caps := []) (arg := vR v) (f := f_X1_lambda_mat_0 K  v) (x := ⟨"JumpHall", "mat", "()I"⟩) (fs := []) (ig := .invokestatic 17) X (siG_201 GA) hfb_1 (lw_all_tbl q3550) ⟨by decide, by decide⟩ rfl hk (y := yX1_lambda_mat_0) (by decide +kernel) hy_X1_lambda_mat_0 (by decide +kernel) ⟨by decide, by decide⟩ hlink (gf X.1.1 X.1.2.1 q1758 rfl) (gf X.1.1 X.1.2.1 q1757 rfl) (by decide +kernel) (by unfold npar; decide +kernel) (w_X1_lambda_mat_0 GA  v) (Or.inl rfl) q1715 q74 (fun _ _ => rfl) rfl (fun j v hj => absurd hj (by simp)) ⟨(fun j i hj => absurd hj (by simp)), by decide +kernel, by decide +kernel, by decide +kernel⟩ ⟨rfl, by cases v <;> rfl⟩ hF hLo hsz hW8 hst hdg (lam_stat GA.1 q1714 q74 hy_X1_lambda_mat_0 np_X1_lambda_mat_0 (Or.inl rfl) q1715 (by decide +kernel)) r1 hf kk kx
theorem w_J18_checkIndex_j9 {r : Except Nat (Int32) × AH} (GA : GA l s0 a0 K lam) (Z : WZ l s0 a0 K p s m c cJ18_checkIndex yJ18_checkIndex.cls 3 b R 0 0 meth [] (some (.int)) yJ18_checkIndex) (v0 : Int32) (v1 : Int32) (v2 : Option Nat)   {h : AH} {ls : Array Slot} (hl : LV ls 3 [(0, vI v0), (1, vI v1), (2, vR v2)]) (hf : f_J18_checkIndex_j9 K v0 v1 v2 h = some r) : AW s0 K lam p l e R s m args below meth c (AQ s0 K lam below oI b r s) b h (F0 m 9 ls []) := by
  unfold f_J18_checkIndex_j9 at hf
  have X := Z.1.1
  refine a_aload_n (pc := 9) X dJ18_checkIndex_9 rfl hl 2 rfl ?_
  refine a_iload_n (pc := 10) X dJ18_checkIndex_10 rfl hl 0 rfl ?_
  refine a_iload_n (pc := 11) X dJ18_checkIndex_11 rfl hl 1 rfl ?_
  exact fl_no hf
theorem np_J18_checkIndex : npar yJ18_checkIndex.desc 3 := by unfold npar; decide +kernel
theorem hy_J18_checkIndex : yJ18_checkIndex.cls ≠ "java/lang/invoke/MethodHandle" ∧ yJ18_checkIndex.cls ≠ "java/lang/invoke/VarHandle" := by decide +kernel
theorem w_J18_checkIndex (GA : GA l s0 a0 K lam) (v0 : Int32) (v1 : Int32) (v2 : Option Nat) : AMet l s0 K lam yJ18_checkIndex (Cond.code yJ18_checkIndex cJ18_checkIndex (3 : Nat) (Option.some ClassFile.FieldType.int)) 0 0 [vI v0, vI v1, vR v2] oI (f_J18_checkIndex K v0 v1 v2) := by
  refine AMet.of GA.1 (plainFor_of_name (by decide +kernel)) (Nat.le_of_ble_eq_true rfl) ?_
  intro b r hf p e s m args below meth c X hr hlk hnm hnd ht ls hl
  have Z : WZ l s0 a0 K p s m c cJ18_checkIndex yJ18_checkIndex.cls 3 b { frames := 0, cells := K 0 - aX b, slots := K 1 - aW b, locals := 0 } 0 0 meth [] (some (.int)) yJ18_checkIndex := ⟨⟨X, GA.2.1, GA.2.2.1, rfl, rfl, Nat.le_refl _, Nat.le_refl _⟩, tab_nil ht, hr, hlk, hnm, hnd⟩
  unfold f_J18_checkIndex at hf
  clear hr hlk hnm hnd ht
  refine a_iload_n (pc := 0) X dJ18_checkIndex_0 rfl hl 0 rfl ?_
  refine AW.lift2 (fun _ _ _ _ k1 k2 => lv_if_lt (pc := 1) (tgt := 9) X.2.2.1 X.2.2.2.1 dJ18_checkIndex_1 rfl k1 k2) (fun c => ?_) (fun c => ?_)
  · have hf := ite_t c hf
    exact w_J18_checkIndex_j9 GA Z v0 v1 v2   (hl.sub [0, 1, 2] rfl) hf
  · have hf := ite_f c hf
    refine a_iload_n (pc := 4) X dJ18_checkIndex_4 rfl hl 0 rfl ?_
    refine a_iload_n (pc := 5) X dJ18_checkIndex_5 rfl hl 1 rfl ?_
    refine AW.lift2 (fun _ _ _ _ k1 k2 => lv_icmp_lt (pc := 6) (tgt := 16) X.2.2.1 X.2.2.2.1 dJ18_checkIndex_6 rfl k1 k2) (fun c => ?_) (fun c => ?_)
    · have hf := ite_t c hf
      refine a_iload_n (pc := 16) X dJ18_checkIndex_16 rfl hl 0 rfl ?_
      exact a_ireturn X Z.2.2.1 Z.2.2.2.1 dJ18_checkIndex_17 hf
    · have hf := ite_f c hf
      exact w_J18_checkIndex_j9 GA Z v0 v1 v2   (hl.sub [0, 1, 2] rfl) hf
theorem np_J17_checkIndex : npar yJ17_checkIndex.desc 2 := by unfold npar; decide +kernel
theorem hy_J17_checkIndex : yJ17_checkIndex.cls ≠ "java/lang/invoke/MethodHandle" ∧ yJ17_checkIndex.cls ≠ "java/lang/invoke/VarHandle" := by decide +kernel
theorem w_J17_checkIndex (GA : GA l s0 a0 K lam) (v0 : Int32) (v1 : Int32) : AMet l s0 K lam yJ17_checkIndex (Cond.code yJ17_checkIndex cJ17_checkIndex (2 : Nat) (Option.some ClassFile.FieldType.int)) 1 22 [vI v0, vI v1] oI (f_J17_checkIndex K v0 v1) := by
  refine AMet.of GA.1 (plainFor_of_name (by decide +kernel)) (Nat.le_of_ble_eq_true rfl) ?_
  intro b r hf p e s m args below meth c X hr hlk hnm hnd ht ls hl
  have Z : WZ l s0 a0 K p s m c cJ17_checkIndex yJ17_checkIndex.cls 2 b { frames := 1, cells := K 0 - aX b, slots := K 1 - aW b, locals := 22 } 1 22 meth [] (some (.int)) yJ17_checkIndex := ⟨⟨X, GA.2.1, GA.2.2.1, rfl, rfl, Nat.le_refl _, Nat.le_refl _⟩, tab_nil ht, hr, hlk, hnm, hnd⟩
  unfold f_J17_checkIndex at hf
  clear hr hlk hnm hnd ht
  refine a_iload_n (pc := 0) X dJ17_checkIndex_0 rfl hl 0 rfl ?_
  refine a_iload_n (pc := 1) X dJ17_checkIndex_1 rfl hl 1 rfl ?_
  refine a_null (pc := 2) X dJ17_checkIndex_2 ?_
  refine a_callb (pc := 3) (rs := []) (avs := [vI v0, vI v1, vR none]) Z.1 (w_J18_checkIndex GA v0 v1 none) (Or.inl rfl) q511 q100 (by decide) (by decide) dJ17_checkIndex_3 hl.1 (Nat.le_of_ble_eq_true rfl) hf (ct_S X (Or.inl rfl) q511 q100 q509 q510 hy_J18_checkIndex np_J18_checkIndex rfl dJ17_checkIndex_3) (fun q h he hX => a_out (unc_of Z.2.1 rfl) Z.2.2.2.1 he hX) (fun x3 h hf => ?kk3)
  refine AW.eq (g2 := F0 m 6 ls [.int x3]) rfl ?_
  exact a_ireturn X Z.2.2.1 Z.2.2.2.1 dJ17_checkIndex_6 hf
theorem np_J2_elementData : npar yJ2_elementData.desc 1 := by unfold npar; decide +kernel
theorem hy_J2_elementData : yJ2_elementData.cls ≠ "java/lang/invoke/MethodHandle" ∧ yJ2_elementData.cls ≠ "java/lang/invoke/VarHandle" := by decide +kernel
theorem w_J2_elementData (GA : GA l s0 a0 K lam) (v0 : Option Nat) (v1 : Int32) : AMet l s0 K lam yJ2_elementData (Cond.code yJ2_elementData cJ2_elementData (2 : Nat) (Option.some (ClassFile.FieldType.object "java/lang/Object"))) 0 0 [vR v0, vI v1] oR (f_J2_elementData K v0 v1) := by
  refine AMet.of GA.1 (plainFor_of_name (by decide +kernel)) (Nat.le_of_ble_eq_true rfl) ?_
  intro b r hf p e s m args below meth c X hr hlk hnm hnd ht ls hl
  have Z : WZ l s0 a0 K p s m c cJ2_elementData yJ2_elementData.cls 2 b { frames := 0, cells := K 0 - aX b, slots := K 1 - aW b, locals := 0 } 0 0 meth [] (some (.object "java/lang/Object")) yJ2_elementData := ⟨⟨X, GA.2.1, GA.2.2.1, rfl, rfl, Nat.le_refl _, Nat.le_refl _⟩, tab_nil ht, hr, hlk, hnm, hnd⟩
  unfold f_J2_elementData at hf
  clear hr hlk hnm hnd ht
  refine a_aload_n (pc := 0) X dJ2_elementData_0 rfl hl 0 rfl ?_
  refine a_get (pc := 1) (φ := 2500) pR_t X Z.1.2.1 (gw X.1 X.2.1 q166) (fun _ q => q) (by decide) dJ2_elementData_1 hf (fun x1 hf => ?_)
  refine a_iload_n (pc := 4) X dJ2_elementData_4 rfl hl 1 rfl ?_
  refine a_aaload (pc := 5) (t := 1006) (by decide) rfl X dJ2_elementData_5 hf (fun x5 hf => ?_)
  exact a_areturn X Z.2.2.1 (Or.inl ⟨_, rfl⟩) Z.2.2.2.1 dJ2_elementData_6 hf
theorem np_J2_get : npar yJ2_get.desc 1 := by unfold npar; decide +kernel
theorem hy_J2_get : yJ2_get.cls ≠ "java/lang/invoke/MethodHandle" ∧ yJ2_get.cls ≠ "java/lang/invoke/VarHandle" := by decide +kernel
theorem w_J2_get (GA : GA l s0 a0 K lam) (v0 : Option Nat) (v1 : Int32) : AMet l s0 K lam yJ2_get (Cond.code yJ2_get cJ2_get (2 : Nat) (Option.some (ClassFile.FieldType.object "java/lang/Object"))) 2 43 [vR v0, vI v1] oR (f_J2_get K v0 v1) := by
  refine AMet.of GA.1 (plainFor_of_name (by decide +kernel)) (Nat.le_of_ble_eq_true rfl) ?_
  intro b r hf p e s m args below meth c X hr hlk hnm hnd ht ls hl
  have Z : WZ l s0 a0 K p s m c cJ2_get yJ2_get.cls 2 b { frames := 2, cells := K 0 - aX b, slots := K 1 - aW b, locals := 43 } 2 43 meth [] (some (.object "java/lang/Object")) yJ2_get := ⟨⟨X, GA.2.1, GA.2.2.1, rfl, rfl, Nat.le_refl _, Nat.le_refl _⟩, tab_nil ht, hr, hlk, hnm, hnd⟩
  unfold f_J2_get at hf
  clear hr hlk hnm hnd ht
  refine a_iload_n (pc := 0) X dJ2_get_0 rfl hl 1 rfl ?_
  refine a_aload_n (pc := 1) X dJ2_get_1 rfl hl 0 rfl ?_
  refine a_get (pc := 2) (φ := 2501) pI_t X Z.1.2.1 (gw X.1 X.2.1 q169) (fun _ q => q) (by decide) dJ2_get_2 hf (fun x2 hf => ?_)
  refine a_callb (pc := 5) (rs := []) (avs := [vI v1, vI x2]) Z.1 (w_J17_checkIndex GA v1 x2) (Or.inl rfl) q508 q99 (by decide) (by decide) dJ2_get_5 hl.1 (Nat.le_of_ble_eq_true rfl) hf (ct_S X (Or.inl rfl) q508 q99 q506 q507 hy_J17_checkIndex np_J17_checkIndex rfl dJ2_get_5) (fun q h he hX => a_out (unc_of Z.2.1 rfl) Z.2.2.2.1 he hX) (fun x5 h hf => ?kk5)
  refine AW.eq (g2 := F0 m 8 ls [.int x5]) rfl ?_
  refine AW.lift (fun _ _ _ _ k => lv_pop (pc := 8) X.2.2.1 X.2.2.2.1 dJ2_get_8 rfl k) ?_
  refine a_aload_n (pc := 9) X dJ2_get_9 rfl hl 0 rfl ?_
  refine a_iload_n (pc := 10) X dJ2_get_10 rfl hl 1 rfl ?_
  obtain ⟨a11, rfl, ⟨hk, hf⟩ | ⟨-, hf⟩⟩ := dv_some hf
  rotate_left
  · exact fl_none hf
  refine a_callb (pc := 11) (rs := []) (avs := [vR (some a11), vI v1]) Z.1 (w_J2_elementData GA (some a11) v1) (Or.inl rfl) q515 q78 (by decide) (by decide) dJ2_get_11 hl.1 (Nat.le_of_ble_eq_true rfl) hf (ct_V hk ⟨by decide, by decide⟩ X (Or.inl rfl) q515 q512 q513 q514 hy_J2_elementData np_J2_elementData rfl dJ2_get_11) (fun q h he hX => a_out (unc_of Z.2.1 rfl) Z.2.2.2.1 he hX) (fun x11 h hf => ?kk11)
  refine AW.eq (g2 := F0 m 14 ls [va_rf x11]) rfl ?_
  exact a_areturn X Z.2.2.1 (Or.inl ⟨_, rfl⟩) Z.2.2.2.1 dJ2_get_14 hf
theorem np_X8_isOn : npar yX8_isOn.desc 1 := by unfold npar; decide +kernel
theorem hy_X8_isOn : yX8_isOn.cls ≠ "java/lang/invoke/MethodHandle" ∧ yX8_isOn.cls ≠ "java/lang/invoke/VarHandle" := by decide +kernel
theorem w_X8_isOn (GA : GA l s0 a0 K lam) (v0 : Option Nat) (v1 : Int32) : AMet l s0 K lam yX8_isOn (Cond.code yX8_isOn cX8_isOn (2 : Nat) (Option.some ClassFile.FieldType.boolean)) 0 0 [vR v0, vI v1] oI (f_X8_isOn K v0 v1) := by
  refine AMet.of GA.1 (plainFor_of_name (by decide +kernel)) (Nat.le_of_ble_eq_true rfl) ?_
  intro b r hf p e s m args below meth c X hr hlk hnm hnd ht ls hl
  have Z : WZ l s0 a0 K p s m c cX8_isOn yX8_isOn.cls 2 b { frames := 0, cells := K 0 - aX b, slots := K 1 - aW b, locals := 0 } 0 0 meth [] (some (.boolean)) yX8_isOn := ⟨⟨X, GA.2.1, GA.2.2.1, rfl, rfl, Nat.le_refl _, Nat.le_refl _⟩, tab_nil ht, hr, hlk, hnm, hnd⟩
  unfold f_X8_isOn at hf
  clear hr hlk hnm hnd ht
  refine a_aload_n (pc := 0) X dX8_isOn_0 rfl hl 0 rfl ?_
  refine a_get (pc := 1) (φ := 505) pI_t X Z.1.2.1 (gw X.1 X.2.1 q924) (fun _ q => q) (by decide) dX8_isOn_1 hf (fun x1 hf => ?_)
  refine a_iload_n (pc := 4) X dX8_isOn_4 rfl hl 1 rfl ?_
  refine AW.lift2 (fun _ _ _ _ k1 k2 => lv_icmp_ne (pc := 5) (tgt := 12) X.2.2.1 X.2.2.2.1 dX8_isOn_5 rfl k2 k1) (fun c => ?_) (fun c => ?_)
  · have hf := ite_t c hf
    refine AW.lift (fun _ _ _ _ k => lv_iconst (pc := 8) (v := (1 : Int32)) X.2.2.1 X.2.2.2.1 dX8_isOn_8 rfl k) ?_
    refine AW.lift (fun _ _ _ _ k => lv_goto (pc := 9) (tgt := 13) X.2.2.1 X.2.2.2.1 dX8_isOn_9 rfl k) ?_
    exact a_zreturn X Z.2.2.1 rfl Z.2.2.2.1 dX8_isOn_13 hf
  · have hf := ite_f c hf
    refine AW.lift (fun _ _ _ _ k => lv_iconst (pc := 12) (v := (0 : Int32)) X.2.2.1 X.2.2.2.1 dX8_isOn_12 rfl k) ?_
    exact a_zreturn X Z.2.2.1 rfl Z.2.2.2.1 dX8_isOn_13 hf
theorem np_X2_lambda_fix_1 : npar yX2_lambda_fix_1.desc 2 := by unfold npar; decide +kernel
theorem hy_X2_lambda_fix_1 : yX2_lambda_fix_1.cls ≠ "java/lang/invoke/MethodHandle" ∧ yX2_lambda_fix_1.cls ≠ "java/lang/invoke/VarHandle" := by decide +kernel
theorem w_X2_lambda_fix_1 (GA : GA l s0 a0 K lam) (v0 : Int32) (v1 : Option Nat) : AMet l s0 K lam yX2_lambda_fix_1 (Cond.code yX2_lambda_fix_1 cX2_lambda_fix_1 (2 : Nat) (Option.some ClassFile.FieldType.boolean)) 1 21 [vI v0, vR v1] oI (f_X2_lambda_fix_1 K v0 v1) := by
  refine AMet.of GA.1 (plainFor_of_name (by decide +kernel)) (Nat.le_of_ble_eq_true rfl) ?_
  intro b r hf p e s m args below meth c X hr hlk hnm hnd ht ls hl
  have Z : WZ l s0 a0 K p s m c cX2_lambda_fix_1 yX2_lambda_fix_1.cls 2 b { frames := 1, cells := K 0 - aX b, slots := K 1 - aW b, locals := 21 } 1 21 meth [] (some (.boolean)) yX2_lambda_fix_1 := ⟨⟨X, GA.2.1, GA.2.2.1, rfl, rfl, Nat.le_refl _, Nat.le_refl _⟩, tab_nil ht, hr, hlk, hnm, hnd⟩
  unfold f_X2_lambda_fix_1 at hf
  clear hr hlk hnm hnd ht
  refine a_aload_n (pc := 0) X dX2_lambda_fix_1_0 rfl hl 1 rfl ?_
  refine a_iload_n (pc := 1) X dX2_lambda_fix_1_1 rfl hl 0 rfl ?_
  obtain ⟨a2, rfl, ⟨hk, hf⟩ | ⟨-, hf⟩⟩ := dv_some hf
  rotate_left
  · exact fl_none hf
  refine a_callb (pc := 2) (rs := []) (avs := [vR (some a2), vI v0]) Z.1 (w_X8_isOn GA (some a2) v0) (Or.inl rfl) q1834 q107 (by decide) (by decide) dX2_lambda_fix_1_2 hl.1 (Nat.le_of_ble_eq_true rfl) hf (ct_V hk ⟨by decide, by decide⟩ X (Or.inl rfl) q1834 q1831 q1832 q1833 hy_X8_isOn np_X8_isOn rfl dX2_lambda_fix_1_2) (fun q h he hX => a_out (unc_of Z.2.1 rfl) Z.2.2.2.1 he hX) (fun x2 h hf => ?kk2)
  refine AW.eq (g2 := F0 m 5 ls [.int x2]) rfl ?_
  obtain ⟨hg, hf⟩ := chk_some hf
  exact a_zreturn X Z.2.2.1 hg Z.2.2.2.1 dX2_lambda_fix_1_5 hf
theorem cl_203 {Q : State → Prop} {h : AH} {cc : ByteArray} {own : String} {nL pc : Nat} {ls : Array Slot} {st : List Value} {F Lo idx cnt a : Nat} {v : Option Nat} {rs : List TV} (X : WX l s0 a0 K p s m c cc own nL b R F Lo) (GA : GA l s0 a0 K lam) (hk : aK h a = 203) (hlink : Cond.methodLink own idx ({ cls := "JumpHall$Test", name := "is", desc := "(LJumpHall$Jumper;)Z" } : MethodName) ∈ lw_all) (hF : 3 ≤ F) (hLo : 71 ≤ Lo) (hsz : ls.size = nL) (hW8 : (rs.map tcat).sum ≤ 8) (hst : st = va_rf v :: .ref a :: rs.map tvv) (hdg : decode cc pc = .ok (.invokeinterface idx cnt, 5)) : LC s0 K lam p l e R s m args below meth c Q b h pc ls (rs.map tvv) st (c_lam203 K (some a) v) := by
  intro r1 hf kk kx
  unfold c_lam203 at hf
  obtain ⟨a0, c0, e0, -, hp0, hf⟩ := gL_some hf
  cases e0
  obtain ⟨hf, hfit⟩ := bz_some hf
  refine lam_core (caps := [vI c0]) (arg := vR v) (f := f_X2_lambda_fix_1 K c0 v) (x := ⟨"JumpHall$Hall", "fix", "(II)I"⟩) (fs := [15]) (ig := .invokestatic 23) X (siG_203 GA) hfb_3 (lw_all_tbl q3550) ⟨by decide, by decide⟩ rfl hk (y := yX2_lambda_fix_1) (by decide +kernel) hy_X2_lambda_fix_1 (by decide +kernel) ⟨by decide, by decide⟩ hlink (gf X.1.1 X.1.2.1 q1842 rfl) (gf X.1.1 X.1.2.1 q1841 rfl) (by decide +kernel) (by unfold npar; decide +kernel) (w_X2_lambda_fix_1 GA c0 v) (Or.inl rfl) q1830 q75 (fun {r2} {w} h2 hw => hfit w (by rw [hf] at h2; cases h2; exact hw)) rfl (fun j v hj => by
    rcases j with _ | j
    · exact (Option.some.inj hj : vI c0 = v) ▸ pI_t hp0
    · exact absurd hj (by simp)) ⟨(fun j i hj => by
    rcases j with _ | j
    · obtain rfl : 15 = i := Option.some.inj hj
      exact ⟨by decide +kernel, by decide +kernel⟩
    · exact absurd hj (by simp)), by decide +kernel, by decide +kernel, by decide +kernel⟩ ⟨rfl, by cases v <;> rfl⟩ hF hLo hsz hW8 hst hdg (lam_stat GA.1 q1829 q75 hy_X2_lambda_fix_1 np_X2_lambda_fix_1 (Or.inl rfl) q1830 (by decide +kernel)) r1 hf kk kx
theorem np_X1_lambda_matOf_3 : npar yX1_lambda_matOf_3.desc 2 := by unfold npar; decide +kernel
theorem hy_X1_lambda_matOf_3 : yX1_lambda_matOf_3.cls ≠ "java/lang/invoke/MethodHandle" ∧ yX1_lambda_matOf_3.cls ≠ "java/lang/invoke/VarHandle" := by decide +kernel
theorem w_X1_lambda_matOf_3 (GA : GA l s0 a0 K lam) (v0 : Int32) (v1 : Option Nat) : AMet l s0 K lam yX1_lambda_matOf_3 (Cond.code yX1_lambda_matOf_3 cX1_lambda_matOf_3 (2 : Nat) (Option.some ClassFile.FieldType.boolean)) 1 21 [vI v0, vR v1] oI (f_X1_lambda_matOf_3 K v0 v1) := by
  refine AMet.of GA.1 (plainFor_of_name (by decide +kernel)) (Nat.le_of_ble_eq_true rfl) ?_
  intro b r hf p e s m args below meth c X hr hlk hnm hnd ht ls hl
  have Z : WZ l s0 a0 K p s m c cX1_lambda_matOf_3 yX1_lambda_matOf_3.cls 2 b { frames := 1, cells := K 0 - aX b, slots := K 1 - aW b, locals := 21 } 1 21 meth [] (some (.boolean)) yX1_lambda_matOf_3 := ⟨⟨X, GA.2.1, GA.2.2.1, rfl, rfl, Nat.le_refl _, Nat.le_refl _⟩, tab_nil ht, hr, hlk, hnm, hnd⟩
  unfold f_X1_lambda_matOf_3 at hf
  clear hr hlk hnm hnd ht
  refine a_aload_n (pc := 0) X dX1_lambda_matOf_3_0 rfl hl 1 rfl ?_
  refine a_iload_n (pc := 1) X dX1_lambda_matOf_3_1 rfl hl 0 rfl ?_
  obtain ⟨a2, rfl, ⟨hk, hf⟩ | ⟨-, hf⟩⟩ := dv_some hf
  rotate_left
  · exact fl_none hf
  refine a_callb (pc := 2) (rs := []) (avs := [vR (some a2), vI v0]) Z.1 (w_X8_isOn GA (some a2) v0) (Or.inl rfl) q1834 q107 (by decide) (by decide) dX1_lambda_matOf_3_2 hl.1 (Nat.le_of_ble_eq_true rfl) hf (ct_V hk ⟨by decide, by decide⟩ X (Or.inl rfl) q1834 q1897 q1832 q1833 hy_X8_isOn np_X8_isOn rfl dX1_lambda_matOf_3_2) (fun q h he hX => a_out (unc_of Z.2.1 rfl) Z.2.2.2.1 he hX) (fun x2 h hf => ?kk2)
  refine AW.eq (g2 := F0 m 5 ls [.int x2]) rfl ?_
  obtain ⟨hg, hf⟩ := chk_some hf
  exact a_zreturn X Z.2.2.1 hg Z.2.2.2.1 dX1_lambda_matOf_3_5 hf
theorem cl_205 {Q : State → Prop} {h : AH} {cc : ByteArray} {own : String} {nL pc : Nat} {ls : Array Slot} {st : List Value} {F Lo idx cnt a : Nat} {v : Option Nat} {rs : List TV} (X : WX l s0 a0 K p s m c cc own nL b R F Lo) (GA : GA l s0 a0 K lam) (hk : aK h a = 205) (hlink : Cond.methodLink own idx ({ cls := "JumpHall$Test", name := "is", desc := "(LJumpHall$Jumper;)Z" } : MethodName) ∈ lw_all) (hF : 3 ≤ F) (hLo : 71 ≤ Lo) (hsz : ls.size = nL) (hW8 : (rs.map tcat).sum ≤ 8) (hst : st = va_rf v :: .ref a :: rs.map tvv) (hdg : decode cc pc = .ok (.invokeinterface idx cnt, 5)) : LC s0 K lam p l e R s m args below meth c Q b h pc ls (rs.map tvv) st (c_lam205 K (some a) v) := by
  intro r1 hf kk kx
  unfold c_lam205 at hf
  obtain ⟨a0, c0, e0, -, hp0, hf⟩ := gL_some hf
  cases e0
  obtain ⟨hf, hfit⟩ := bz_some hf
  refine lam_core (caps := [vI c0]) (arg := vR v) (f := f_X1_lambda_matOf_3 K c0 v) (x := ⟨"JumpHall", "matOf", "(II)I"⟩) (fs := [15]) (ig := .invokestatic 23) X (siG_205 GA) hfb_5 (lw_all_tbl q3550) ⟨by decide, by decide⟩ rfl hk (y := yX1_lambda_matOf_3) (by decide +kernel) hy_X1_lambda_matOf_3 (by decide +kernel) ⟨by decide, by decide⟩ hlink (gf X.1.1 X.1.2.1 q1842 rfl) (gf X.1.1 X.1.2.1 q1841 rfl) (by decide +kernel) (by unfold npar; decide +kernel) (w_X1_lambda_matOf_3 GA c0 v) (Or.inl rfl) q1896 q74 (fun {r2} {w} h2 hw => hfit w (by rw [hf] at h2; cases h2; exact hw)) rfl (fun j v hj => by
    rcases j with _ | j
    · exact (Option.some.inj hj : vI c0 = v) ▸ pI_t hp0
    · exact absurd hj (by simp)) ⟨(fun j i hj => by
    rcases j with _ | j
    · obtain rfl : 15 = i := Option.some.inj hj
      exact ⟨by decide +kernel, by decide +kernel⟩
    · exact absurd hj (by simp)), by decide +kernel, by decide +kernel, by decide +kernel⟩ ⟨rfl, by cases v <;> rfl⟩ hF hLo hsz hW8 hst hdg (lam_stat GA.1 q1895 q74 hy_X1_lambda_matOf_3 np_X1_lambda_matOf_3 (Or.inl rfl) q1896 (by decide +kernel)) r1 hf kk kx
theorem np_X2_lambda_weightOn_0 : npar yX2_lambda_weightOn_0.desc 2 := by unfold npar; decide +kernel
theorem hy_X2_lambda_weightOn_0 : yX2_lambda_weightOn_0.cls ≠ "java/lang/invoke/MethodHandle" ∧ yX2_lambda_weightOn_0.cls ≠ "java/lang/invoke/VarHandle" := by decide +kernel
theorem w_X2_lambda_weightOn_0 (GA : GA l s0 a0 K lam) (v0 : Int32) (v1 : Option Nat) : AMet l s0 K lam yX2_lambda_weightOn_0 (Cond.code yX2_lambda_weightOn_0 cX2_lambda_weightOn_0 (2 : Nat) (Option.some ClassFile.FieldType.boolean)) 1 21 [vI v0, vR v1] oI (f_X2_lambda_weightOn_0 K v0 v1) := by
  refine AMet.of GA.1 (plainFor_of_name (by decide +kernel)) (Nat.le_of_ble_eq_true rfl) ?_
  intro b r hf p e s m args below meth c X hr hlk hnm hnd ht ls hl
  have Z : WZ l s0 a0 K p s m c cX2_lambda_weightOn_0 yX2_lambda_weightOn_0.cls 2 b { frames := 1, cells := K 0 - aX b, slots := K 1 - aW b, locals := 21 } 1 21 meth [] (some (.boolean)) yX2_lambda_weightOn_0 := ⟨⟨X, GA.2.1, GA.2.2.1, rfl, rfl, Nat.le_refl _, Nat.le_refl _⟩, tab_nil ht, hr, hlk, hnm, hnd⟩
  unfold f_X2_lambda_weightOn_0 at hf
  clear hr hlk hnm hnd ht
  refine a_aload_n (pc := 0) X dX2_lambda_weightOn_0_0 rfl hl 1 rfl ?_
  refine a_iload_n (pc := 1) X dX2_lambda_weightOn_0_1 rfl hl 0 rfl ?_
  obtain ⟨a2, rfl, ⟨hk, hf⟩ | ⟨-, hf⟩⟩ := dv_some hf
  rotate_left
  · exact fl_none hf
  refine a_callb (pc := 2) (rs := []) (avs := [vR (some a2), vI v0]) Z.1 (w_X8_isOn GA (some a2) v0) (Or.inl rfl) q1834 q107 (by decide) (by decide) dX2_lambda_weightOn_0_2 hl.1 (Nat.le_of_ble_eq_true rfl) hf (ct_V hk ⟨by decide, by decide⟩ X (Or.inl rfl) q1834 q1831 q1832 q1833 hy_X8_isOn np_X8_isOn rfl dX2_lambda_weightOn_0_2) (fun q h he hX => a_out (unc_of Z.2.1 rfl) Z.2.2.2.1 he hX) (fun x2 h hf => ?kk2)
  refine AW.eq (g2 := F0 m 5 ls [.int x2]) rfl ?_
  obtain ⟨hg, hf⟩ := chk_some hf
  exact a_zreturn X Z.2.2.1 hg Z.2.2.2.1 dX2_lambda_weightOn_0_5 hf
theorem cl_206 {Q : State → Prop} {h : AH} {cc : ByteArray} {own : String} {nL pc : Nat} {ls : Array Slot} {st : List Value} {F Lo idx cnt a : Nat} {v : Option Nat} {rs : List TV} (X : WX l s0 a0 K p s m c cc own nL b R F Lo) (GA : GA l s0 a0 K lam) (hk : aK h a = 206) (hlink : Cond.methodLink own idx ({ cls := "JumpHall$Test", name := "is", desc := "(LJumpHall$Jumper;)Z" } : MethodName) ∈ lw_all) (hF : 3 ≤ F) (hLo : 71 ≤ Lo) (hsz : ls.size = nL) (hW8 : (rs.map tcat).sum ≤ 8) (hst : st = va_rf v :: .ref a :: rs.map tvv) (hdg : decode cc pc = .ok (.invokeinterface idx cnt, 5)) : LC s0 K lam p l e R s m args below meth c Q b h pc ls (rs.map tvv) st (c_lam206 K (some a) v) := by
  intro r1 hf kk kx
  unfold c_lam206 at hf
  obtain ⟨a0, c0, e0, -, hp0, hf⟩ := gL_some hf
  cases e0
  obtain ⟨hf, hfit⟩ := bz_some hf
  refine lam_core (caps := [vI c0]) (arg := vR v) (f := f_X2_lambda_weightOn_0 K c0 v) (x := ⟨"JumpHall$Hall", "weightOn", "(I)I"⟩) (fs := [15]) (ig := .invokestatic 23) X (siG_206 GA) hfb_6 (lw_all_tbl q3550) ⟨by decide, by decide⟩ rfl hk (y := yX2_lambda_weightOn_0) (by decide +kernel) hy_X2_lambda_weightOn_0 (by decide +kernel) ⟨by decide, by decide⟩ hlink (gf X.1.1 X.1.2.1 q1842 rfl) (gf X.1.1 X.1.2.1 q1841 rfl) (by decide +kernel) (by unfold npar; decide +kernel) (w_X2_lambda_weightOn_0 GA c0 v) (Or.inl rfl) q1907 q75 (fun {r2} {w} h2 hw => hfit w (by rw [hf] at h2; cases h2; exact hw)) rfl (fun j v hj => by
    rcases j with _ | j
    · exact (Option.some.inj hj : vI c0 = v) ▸ pI_t hp0
    · exact absurd hj (by simp)) ⟨(fun j i hj => by
    rcases j with _ | j
    · obtain rfl : 15 = i := Option.some.inj hj
      exact ⟨by decide +kernel, by decide +kernel⟩
    · exact absurd hj (by simp)), by decide +kernel, by decide +kernel, by decide +kernel⟩ ⟨rfl, by cases v <;> rfl⟩ hF hLo hsz hW8 hst hdg (lam_stat GA.1 q1906 q75 hy_X2_lambda_weightOn_0 np_X2_lambda_weightOn_0 (Or.inl rfl) q1907 (by decide +kernel)) r1 hf kk kx
theorem np_X2_lambda_checkUp_2 : npar yX2_lambda_checkUp_2.desc 2 := by unfold npar; decide +kernel
theorem hy_X2_lambda_checkUp_2 : yX2_lambda_checkUp_2.cls ≠ "java/lang/invoke/MethodHandle" ∧ yX2_lambda_checkUp_2.cls ≠ "java/lang/invoke/VarHandle" := by decide +kernel
theorem w_X2_lambda_checkUp_2 (GA : GA l s0 a0 K lam) (v0 : Int32) (v1 : Option Nat) : AMet l s0 K lam yX2_lambda_checkUp_2 (Cond.code yX2_lambda_checkUp_2 cX2_lambda_checkUp_2 (2 : Nat) (Option.some ClassFile.FieldType.boolean)) 1 21 [vI v0, vR v1] oI (f_X2_lambda_checkUp_2 K v0 v1) := by
  refine AMet.of GA.1 (plainFor_of_name (by decide +kernel)) (Nat.le_of_ble_eq_true rfl) ?_
  intro b r hf p e s m args below meth c X hr hlk hnm hnd ht ls hl
  have Z : WZ l s0 a0 K p s m c cX2_lambda_checkUp_2 yX2_lambda_checkUp_2.cls 2 b { frames := 1, cells := K 0 - aX b, slots := K 1 - aW b, locals := 21 } 1 21 meth [] (some (.boolean)) yX2_lambda_checkUp_2 := ⟨⟨X, GA.2.1, GA.2.2.1, rfl, rfl, Nat.le_refl _, Nat.le_refl _⟩, tab_nil ht, hr, hlk, hnm, hnd⟩
  unfold f_X2_lambda_checkUp_2 at hf
  clear hr hlk hnm hnd ht
  refine a_aload_n (pc := 0) X dX2_lambda_checkUp_2_0 rfl hl 1 rfl ?_
  refine a_iload_n (pc := 1) X dX2_lambda_checkUp_2_1 rfl hl 0 rfl ?_
  obtain ⟨a2, rfl, ⟨hk, hf⟩ | ⟨-, hf⟩⟩ := dv_some hf
  rotate_left
  · exact fl_none hf
  refine a_callb (pc := 2) (rs := []) (avs := [vR (some a2), vI v0]) Z.1 (w_X8_isOn GA (some a2) v0) (Or.inl rfl) q1834 q107 (by decide) (by decide) dX2_lambda_checkUp_2_2 hl.1 (Nat.le_of_ble_eq_true rfl) hf (ct_V hk ⟨by decide, by decide⟩ X (Or.inl rfl) q1834 q1831 q1832 q1833 hy_X8_isOn np_X8_isOn rfl dX2_lambda_checkUp_2_2) (fun q h he hX => a_out (unc_of Z.2.1 rfl) Z.2.2.2.1 he hX) (fun x2 h hf => ?kk2)
  refine AW.eq (g2 := F0 m 5 ls [.int x2]) rfl ?_
  obtain ⟨hg, hf⟩ := chk_some hf
  exact a_zreturn X Z.2.2.1 hg Z.2.2.2.1 dX2_lambda_checkUp_2_5 hf
theorem cl_209 {Q : State → Prop} {h : AH} {cc : ByteArray} {own : String} {nL pc : Nat} {ls : Array Slot} {st : List Value} {F Lo idx cnt a : Nat} {v : Option Nat} {rs : List TV} (X : WX l s0 a0 K p s m c cc own nL b R F Lo) (GA : GA l s0 a0 K lam) (hk : aK h a = 209) (hlink : Cond.methodLink own idx ({ cls := "JumpHall$Test", name := "is", desc := "(LJumpHall$Jumper;)Z" } : MethodName) ∈ lw_all) (hF : 3 ≤ F) (hLo : 71 ≤ Lo) (hsz : ls.size = nL) (hW8 : (rs.map tcat).sum ≤ 8) (hst : st = va_rf v :: .ref a :: rs.map tvv) (hdg : decode cc pc = .ok (.invokeinterface idx cnt, 5)) : LC s0 K lam p l e R s m args below meth c Q b h pc ls (rs.map tvv) st (c_lam209 K (some a) v) := by
  intro r1 hf kk kx
  unfold c_lam209 at hf
  obtain ⟨a0, c0, e0, -, hp0, hf⟩ := gL_some hf
  cases e0
  obtain ⟨hf, hfit⟩ := bz_some hf
  refine lam_core (caps := [vI c0]) (arg := vR v) (f := f_X2_lambda_checkUp_2 K c0 v) (x := ⟨"JumpHall$Hall", "checkUp", "(LJumpHall$Jumper;I)V"⟩) (fs := [15]) (ig := .invokestatic 23) X (siG_209 GA) hfb_9 (lw_all_tbl q3550) ⟨by decide, by decide⟩ rfl hk (y := yX2_lambda_checkUp_2) (by decide +kernel) hy_X2_lambda_checkUp_2 (by decide +kernel) ⟨by decide, by decide⟩ hlink (gf X.1.1 X.1.2.1 q1842 rfl) (gf X.1.1 X.1.2.1 q1841 rfl) (by decide +kernel) (by unfold npar; decide +kernel) (w_X2_lambda_checkUp_2 GA c0 v) (Or.inl rfl) q2033 q75 (fun {r2} {w} h2 hw => hfit w (by rw [hf] at h2; cases h2; exact hw)) rfl (fun j v hj => by
    rcases j with _ | j
    · exact (Option.some.inj hj : vI c0 = v) ▸ pI_t hp0
    · exact absurd hj (by simp)) ⟨(fun j i hj => by
    rcases j with _ | j
    · obtain rfl : 15 = i := Option.some.inj hj
      exact ⟨by decide +kernel, by decide +kernel⟩
    · exact absurd hj (by simp)), by decide +kernel, by decide +kernel, by decide +kernel⟩ ⟨rfl, by cases v <;> rfl⟩ hF hLo hsz hW8 hst hdg (lam_stat GA.1 q2032 q75 hy_X2_lambda_checkUp_2 np_X2_lambda_checkUp_2 (Or.inl rfl) q2033 (by decide +kernel)) r1 hf kk kx
theorem np_X2_lambda_checkUp_3 : npar yX2_lambda_checkUp_3.desc 2 := by unfold npar; decide +kernel
theorem hy_X2_lambda_checkUp_3 : yX2_lambda_checkUp_3.cls ≠ "java/lang/invoke/MethodHandle" ∧ yX2_lambda_checkUp_3.cls ≠ "java/lang/invoke/VarHandle" := by decide +kernel
theorem w_X2_lambda_checkUp_3 (GA : GA l s0 a0 K lam) (v0 : Int32) (v1 : Option Nat) : AMet l s0 K lam yX2_lambda_checkUp_3 (Cond.code yX2_lambda_checkUp_3 cX2_lambda_checkUp_3 (2 : Nat) (Option.some ClassFile.FieldType.boolean)) 1 21 [vI v0, vR v1] oI (f_X2_lambda_checkUp_3 K v0 v1) := by
  refine AMet.of GA.1 (plainFor_of_name (by decide +kernel)) (Nat.le_of_ble_eq_true rfl) ?_
  intro b r hf p e s m args below meth c X hr hlk hnm hnd ht ls hl
  have Z : WZ l s0 a0 K p s m c cX2_lambda_checkUp_3 yX2_lambda_checkUp_3.cls 2 b { frames := 1, cells := K 0 - aX b, slots := K 1 - aW b, locals := 21 } 1 21 meth [] (some (.boolean)) yX2_lambda_checkUp_3 := ⟨⟨X, GA.2.1, GA.2.2.1, rfl, rfl, Nat.le_refl _, Nat.le_refl _⟩, tab_nil ht, hr, hlk, hnm, hnd⟩
  unfold f_X2_lambda_checkUp_3 at hf
  clear hr hlk hnm hnd ht
  refine a_aload_n (pc := 0) X dX2_lambda_checkUp_3_0 rfl hl 1 rfl ?_
  refine a_iload_n (pc := 1) X dX2_lambda_checkUp_3_1 rfl hl 0 rfl ?_
  obtain ⟨a2, rfl, ⟨hk, hf⟩ | ⟨-, hf⟩⟩ := dv_some hf
  rotate_left
  · exact fl_none hf
  refine a_callb (pc := 2) (rs := []) (avs := [vR (some a2), vI v0]) Z.1 (w_X8_isOn GA (some a2) v0) (Or.inl rfl) q1834 q107 (by decide) (by decide) dX2_lambda_checkUp_3_2 hl.1 (Nat.le_of_ble_eq_true rfl) hf (ct_V hk ⟨by decide, by decide⟩ X (Or.inl rfl) q1834 q1831 q1832 q1833 hy_X8_isOn np_X8_isOn rfl dX2_lambda_checkUp_3_2) (fun q h he hX => a_out (unc_of Z.2.1 rfl) Z.2.2.2.1 he hX) (fun x2 h hf => ?kk2)
  refine AW.eq (g2 := F0 m 5 ls [.int x2]) rfl ?_
  obtain ⟨hg, hf⟩ := chk_some hf
  exact a_zreturn X Z.2.2.1 hg Z.2.2.2.1 dX2_lambda_checkUp_3_5 hf
theorem cl_210 {Q : State → Prop} {h : AH} {cc : ByteArray} {own : String} {nL pc : Nat} {ls : Array Slot} {st : List Value} {F Lo idx cnt a : Nat} {v : Option Nat} {rs : List TV} (X : WX l s0 a0 K p s m c cc own nL b R F Lo) (GA : GA l s0 a0 K lam) (hk : aK h a = 210) (hlink : Cond.methodLink own idx ({ cls := "JumpHall$Test", name := "is", desc := "(LJumpHall$Jumper;)Z" } : MethodName) ∈ lw_all) (hF : 3 ≤ F) (hLo : 71 ≤ Lo) (hsz : ls.size = nL) (hW8 : (rs.map tcat).sum ≤ 8) (hst : st = va_rf v :: .ref a :: rs.map tvv) (hdg : decode cc pc = .ok (.invokeinterface idx cnt, 5)) : LC s0 K lam p l e R s m args below meth c Q b h pc ls (rs.map tvv) st (c_lam210 K (some a) v) := by
  intro r1 hf kk kx
  unfold c_lam210 at hf
  obtain ⟨a0, c0, e0, -, hp0, hf⟩ := gL_some hf
  cases e0
  obtain ⟨hf, hfit⟩ := bz_some hf
  refine lam_core (caps := [vI c0]) (arg := vR v) (f := f_X2_lambda_checkUp_3 K c0 v) (x := ⟨"JumpHall$Hall", "checkUp", "(LJumpHall$Jumper;I)V"⟩) (fs := [15]) (ig := .invokestatic 23) X (siG_210 GA) hfb_10 (lw_all_tbl q3550) ⟨by decide, by decide⟩ rfl hk (y := yX2_lambda_checkUp_3) (by decide +kernel) hy_X2_lambda_checkUp_3 (by decide +kernel) ⟨by decide, by decide⟩ hlink (gf X.1.1 X.1.2.1 q1842 rfl) (gf X.1.1 X.1.2.1 q1841 rfl) (by decide +kernel) (by unfold npar; decide +kernel) (w_X2_lambda_checkUp_3 GA c0 v) (Or.inl rfl) q2035 q75 (fun {r2} {w} h2 hw => hfit w (by rw [hf] at h2; cases h2; exact hw)) rfl (fun j v hj => by
    rcases j with _ | j
    · exact (Option.some.inj hj : vI c0 = v) ▸ pI_t hp0
    · exact absurd hj (by simp)) ⟨(fun j i hj => by
    rcases j with _ | j
    · obtain rfl : 15 = i := Option.some.inj hj
      exact ⟨by decide +kernel, by decide +kernel⟩
    · exact absurd hj (by simp)), by decide +kernel, by decide +kernel, by decide +kernel⟩ ⟨rfl, by cases v <;> rfl⟩ hF hLo hsz hW8 hst hdg (lam_stat GA.1 q2034 q75 hy_X2_lambda_checkUp_3 np_X2_lambda_checkUp_3 (Or.inl rfl) q2035 (by decide +kernel)) r1 hf kk kx
theorem np_X8_isGone : npar yX8_isGone.desc 0 := by unfold npar; decide +kernel
theorem hy_X8_isGone : yX8_isGone.cls ≠ "java/lang/invoke/MethodHandle" ∧ yX8_isGone.cls ≠ "java/lang/invoke/VarHandle" := by decide +kernel
theorem w_X8_isGone (GA : GA l s0 a0 K lam) (v0 : Option Nat) : AMet l s0 K lam yX8_isGone (Cond.code yX8_isGone cX8_isGone (1 : Nat) (Option.some ClassFile.FieldType.boolean)) 0 0 [vR v0] oI (f_X8_isGone K v0) := by
  refine AMet.of GA.1 (plainFor_of_name (by decide +kernel)) (Nat.le_of_ble_eq_true rfl) ?_
  intro b r hf p e s m args below meth c X hr hlk hnm hnd ht ls hl
  have Z : WZ l s0 a0 K p s m c cX8_isGone yX8_isGone.cls 1 b { frames := 0, cells := K 0 - aX b, slots := K 1 - aW b, locals := 0 } 0 0 meth [] (some (.boolean)) yX8_isGone := ⟨⟨X, GA.2.1, GA.2.2.1, rfl, rfl, Nat.le_refl _, Nat.le_refl _⟩, tab_nil ht, hr, hlk, hnm, hnd⟩
  unfold f_X8_isGone at hf
  clear hr hlk hnm hnd ht
  refine a_aload_n (pc := 0) X dX8_isGone_0 rfl hl 0 rfl ?_
  refine a_get (pc := 1) (φ := 504) pI_t X Z.1.2.1 (gw X.1 X.2.1 q921) (fun _ q => q) (by decide) dX8_isGone_1 hf (fun x1 hf => ?_)
  refine AW.lift (fun _ _ _ _ k => lv_iconst (pc := 4) (v := (2 : Int32)) X.2.2.1 X.2.2.2.1 dX8_isGone_4 rfl k) ?_
  refine AW.lift2 (fun _ _ _ _ k1 k2 => lv_icmp_ne (pc := 5) (tgt := 12) X.2.2.1 X.2.2.2.1 dX8_isGone_5 rfl k2 k1) (fun c => ?_) (fun c => ?_)
  · have hf := ite_t c hf
    refine AW.lift (fun _ _ _ _ k => lv_iconst (pc := 8) (v := (1 : Int32)) X.2.2.1 X.2.2.2.1 dX8_isGone_8 rfl k) ?_
    refine AW.lift (fun _ _ _ _ k => lv_goto (pc := 9) (tgt := 13) X.2.2.1 X.2.2.2.1 dX8_isGone_9 rfl k) ?_
    exact a_zreturn X Z.2.2.1 rfl Z.2.2.2.1 dX8_isGone_13 hf
  · have hf := ite_f c hf
    refine AW.lift (fun _ _ _ _ k => lv_iconst (pc := 12) (v := (0 : Int32)) X.2.2.1 X.2.2.2.1 dX8_isGone_12 rfl k) ?_
    exact a_zreturn X Z.2.2.1 rfl Z.2.2.2.1 dX8_isGone_13 hf
theorem np_X2_lambda_leave_4 : npar yX2_lambda_leave_4.desc 1 := by unfold npar; decide +kernel
theorem hy_X2_lambda_leave_4 : yX2_lambda_leave_4.cls ≠ "java/lang/invoke/MethodHandle" ∧ yX2_lambda_leave_4.cls ≠ "java/lang/invoke/VarHandle" := by decide +kernel
theorem w_X2_lambda_leave_4 (GA : GA l s0 a0 K lam) (v0 : Option Nat) : AMet l s0 K lam yX2_lambda_leave_4 (Cond.code yX2_lambda_leave_4 cX2_lambda_leave_4 (1 : Nat) (Option.some ClassFile.FieldType.boolean)) 1 20 [vR v0] oI (f_X2_lambda_leave_4 K v0) := by
  refine AMet.of GA.1 (plainFor_of_name (by decide +kernel)) (Nat.le_of_ble_eq_true rfl) ?_
  intro b r hf p e s m args below meth c X hr hlk hnm hnd ht ls hl
  have Z : WZ l s0 a0 K p s m c cX2_lambda_leave_4 yX2_lambda_leave_4.cls 1 b { frames := 1, cells := K 0 - aX b, slots := K 1 - aW b, locals := 20 } 1 20 meth [] (some (.boolean)) yX2_lambda_leave_4 := ⟨⟨X, GA.2.1, GA.2.2.1, rfl, rfl, Nat.le_refl _, Nat.le_refl _⟩, tab_nil ht, hr, hlk, hnm, hnd⟩
  unfold f_X2_lambda_leave_4 at hf
  clear hr hlk hnm hnd ht
  refine a_aload_n (pc := 0) X dX2_lambda_leave_4_0 rfl hl 0 rfl ?_
  obtain ⟨a1, rfl, ⟨hk, hf⟩ | ⟨-, hf⟩⟩ := dv_some hf
  rotate_left
  · exact fl_none hf
  refine a_callb (pc := 1) (rs := []) (avs := [vR (some a1)]) Z.1 (w_X8_isGone GA (some a1)) (Or.inl rfl) q2215 q107 (by decide) (by decide) dX2_lambda_leave_4_1 hl.1 (Nat.le_of_ble_eq_true rfl) hf (ct_V hk ⟨by decide, by decide⟩ X (Or.inl rfl) q2215 q2212 q2213 q2214 hy_X8_isGone np_X8_isGone rfl dX2_lambda_leave_4_1) (fun q h he hX => a_out (unc_of Z.2.1 rfl) Z.2.2.2.1 he hX) (fun x1 h hf => ?kk1)
  refine AW.eq (g2 := F0 m 4 ls [.int x1]) rfl ?_
  refine AW.lift2 (fun _ _ _ _ k1 k2 => lv_if_ne (pc := 4) (tgt := 11) X.2.2.1 X.2.2.2.1 dX2_lambda_leave_4_4 rfl k2 k1) (fun c => ?_) (fun c => ?_)
  · have hf := ite_t c hf
    refine AW.lift (fun _ _ _ _ k => lv_iconst (pc := 7) (v := (1 : Int32)) X.2.2.1 X.2.2.2.1 dX2_lambda_leave_4_7 rfl k) ?_
    refine AW.lift (fun _ _ _ _ k => lv_goto (pc := 8) (tgt := 12) X.2.2.1 X.2.2.2.1 dX2_lambda_leave_4_8 rfl k) ?_
    exact a_zreturn X Z.2.2.1 rfl Z.2.2.2.1 dX2_lambda_leave_4_12 hf
  · have hf := ite_f c hf
    refine AW.lift (fun _ _ _ _ k => lv_iconst (pc := 11) (v := (0 : Int32)) X.2.2.1 X.2.2.2.1 dX2_lambda_leave_4_11 rfl k) ?_
    exact a_zreturn X Z.2.2.1 rfl Z.2.2.2.1 dX2_lambda_leave_4_12 hf
theorem cl_213 {Q : State → Prop} {h : AH} {cc : ByteArray} {own : String} {nL pc : Nat} {ls : Array Slot} {st : List Value} {F Lo idx cnt a : Nat} {v : Option Nat} {rs : List TV} (X : WX l s0 a0 K p s m c cc own nL b R F Lo) (GA : GA l s0 a0 K lam) (hk : aK h a = 213) (hlink : Cond.methodLink own idx ({ cls := "JumpHall$Test", name := "is", desc := "(LJumpHall$Jumper;)Z" } : MethodName) ∈ lw_all) (hF : 3 ≤ F) (hLo : 69 ≤ Lo) (hsz : ls.size = nL) (hW8 : (rs.map tcat).sum ≤ 8) (hst : st = va_rf v :: .ref a :: rs.map tvv) (hdg : decode cc pc = .ok (.invokeinterface idx cnt, 5)) : LC s0 K lam p l e R s m args below meth c Q b h pc ls (rs.map tvv) st (c_lam213 K (some a) v) := by
  intro r1 hf kk kx
  unfold c_lam213 at hf
  obtain ⟨hf, hfit⟩ := bz_some hf
  refine lam_core (caps := []) (arg := vR v) (f := f_X2_lambda_leave_4 K  v) (x := ⟨"JumpHall$Hall", "leave", "(I)I"⟩) (fs := []) (ig := .invokestatic 17) X (siG_213 GA) hfb_13 (lw_all_tbl q3550) ⟨by decide, by decide⟩ rfl hk (y := yX2_lambda_leave_4) (by decide +kernel) hy_X2_lambda_leave_4 (by decide +kernel) ⟨by decide, by decide⟩ hlink (gf X.1.1 X.1.2.1 q1842 rfl) (gf X.1.1 X.1.2.1 q1841 rfl) (by decide +kernel) (by unfold npar; decide +kernel) (w_X2_lambda_leave_4 GA  v) (Or.inl rfl) q2211 q75 (fun {r2} {w} h2 hw => hfit w (by rw [hf] at h2; cases h2; exact hw)) rfl (fun j v hj => absurd hj (by simp)) ⟨(fun j i hj => absurd hj (by simp)), by decide +kernel, by decide +kernel, by decide +kernel⟩ ⟨rfl, by cases v <;> rfl⟩ hF hLo hsz hW8 hst hdg (lam_stat GA.1 q2210 q75 hy_X2_lambda_leave_4 np_X2_lambda_leave_4 (Or.inl rfl) q2211 (by decide +kernel)) r1 hf kk kx
theorem np_X1_lambda_meanWeight_15 : npar yX1_lambda_meanWeight_15.desc 1 := by unfold npar; decide +kernel
theorem hy_X1_lambda_meanWeight_15 : yX1_lambda_meanWeight_15.cls ≠ "java/lang/invoke/MethodHandle" ∧ yX1_lambda_meanWeight_15.cls ≠ "java/lang/invoke/VarHandle" := by decide +kernel
theorem w_X1_lambda_meanWeight_15 (GA : GA l s0 a0 K lam) (v0 : Option Nat) : AMet l s0 K lam yX1_lambda_meanWeight_15 (Cond.code yX1_lambda_meanWeight_15 cX1_lambda_meanWeight_15 (1 : Nat) (Option.some ClassFile.FieldType.boolean)) 1 20 [vR v0] oI (f_X1_lambda_meanWeight_15 K v0) := by
  refine AMet.of GA.1 (plainFor_of_name (by decide +kernel)) (Nat.le_of_ble_eq_true rfl) ?_
  intro b r hf p e s m args below meth c X hr hlk hnm hnd ht ls hl
  have Z : WZ l s0 a0 K p s m c cX1_lambda_meanWeight_15 yX1_lambda_meanWeight_15.cls 1 b { frames := 1, cells := K 0 - aX b, slots := K 1 - aW b, locals := 20 } 1 20 meth [] (some (.boolean)) yX1_lambda_meanWeight_15 := ⟨⟨X, GA.2.1, GA.2.2.1, rfl, rfl, Nat.le_refl _, Nat.le_refl _⟩, tab_nil ht, hr, hlk, hnm, hnd⟩
  unfold f_X1_lambda_meanWeight_15 at hf
  clear hr hlk hnm hnd ht
  refine a_aload_n (pc := 0) X dX1_lambda_meanWeight_15_0 rfl hl 0 rfl ?_
  obtain ⟨a1, rfl, ⟨hk, hf⟩ | ⟨-, hf⟩⟩ := dv_some hf
  rotate_left
  · exact fl_none hf
  refine a_callb (pc := 1) (rs := []) (avs := [vR (some a1)]) Z.1 (w_X8_isGone GA (some a1)) (Or.inl rfl) q2215 q107 (by decide) (by decide) dX1_lambda_meanWeight_15_1 hl.1 (Nat.le_of_ble_eq_true rfl) hf (ct_V hk ⟨by decide, by decide⟩ X (Or.inl rfl) q2215 q2608 q2213 q2214 hy_X8_isGone np_X8_isGone rfl dX1_lambda_meanWeight_15_1) (fun q h he hX => a_out (unc_of Z.2.1 rfl) Z.2.2.2.1 he hX) (fun x1 h hf => ?kk1)
  refine AW.eq (g2 := F0 m 4 ls [.int x1]) rfl ?_
  refine AW.lift2 (fun _ _ _ _ k1 k2 => lv_if_ne (pc := 4) (tgt := 11) X.2.2.1 X.2.2.2.1 dX1_lambda_meanWeight_15_4 rfl k2 k1) (fun c => ?_) (fun c => ?_)
  · have hf := ite_t c hf
    refine AW.lift (fun _ _ _ _ k => lv_iconst (pc := 7) (v := (1 : Int32)) X.2.2.1 X.2.2.2.1 dX1_lambda_meanWeight_15_7 rfl k) ?_
    refine AW.lift (fun _ _ _ _ k => lv_goto (pc := 8) (tgt := 12) X.2.2.1 X.2.2.2.1 dX1_lambda_meanWeight_15_8 rfl k) ?_
    exact a_zreturn X Z.2.2.1 rfl Z.2.2.2.1 dX1_lambda_meanWeight_15_12 hf
  · have hf := ite_f c hf
    refine AW.lift (fun _ _ _ _ k => lv_iconst (pc := 11) (v := (0 : Int32)) X.2.2.1 X.2.2.2.1 dX1_lambda_meanWeight_15_11 rfl k) ?_
    exact a_zreturn X Z.2.2.1 rfl Z.2.2.2.1 dX1_lambda_meanWeight_15_12 hf
theorem cl_221 {Q : State → Prop} {h : AH} {cc : ByteArray} {own : String} {nL pc : Nat} {ls : Array Slot} {st : List Value} {F Lo idx cnt a : Nat} {v : Option Nat} {rs : List TV} (X : WX l s0 a0 K p s m c cc own nL b R F Lo) (GA : GA l s0 a0 K lam) (hk : aK h a = 221) (hlink : Cond.methodLink own idx ({ cls := "JumpHall$Test", name := "is", desc := "(LJumpHall$Jumper;)Z" } : MethodName) ∈ lw_all) (hF : 3 ≤ F) (hLo : 69 ≤ Lo) (hsz : ls.size = nL) (hW8 : (rs.map tcat).sum ≤ 8) (hst : st = va_rf v :: .ref a :: rs.map tvv) (hdg : decode cc pc = .ok (.invokeinterface idx cnt, 5)) : LC s0 K lam p l e R s m args below meth c Q b h pc ls (rs.map tvv) st (c_lam221 K (some a) v) := by
  intro r1 hf kk kx
  unfold c_lam221 at hf
  obtain ⟨hf, hfit⟩ := bz_some hf
  refine lam_core (caps := []) (arg := vR v) (f := f_X1_lambda_meanWeight_15 K  v) (x := ⟨"JumpHall", "meanWeight", "()F"⟩) (fs := []) (ig := .invokestatic 17) X (siG_221 GA) hfb_21 (lw_all_tbl q3550) ⟨by decide, by decide⟩ rfl hk (y := yX1_lambda_meanWeight_15) (by decide +kernel) hy_X1_lambda_meanWeight_15 (by decide +kernel) ⟨by decide, by decide⟩ hlink (gf X.1.1 X.1.2.1 q1842 rfl) (gf X.1.1 X.1.2.1 q1841 rfl) (by decide +kernel) (by unfold npar; decide +kernel) (w_X1_lambda_meanWeight_15 GA  v) (Or.inl rfl) q2607 q74 (fun {r2} {w} h2 hw => hfit w (by rw [hf] at h2; cases h2; exact hw)) rfl (fun j v hj => absurd hj (by simp)) ⟨(fun j i hj => absurd hj (by simp)), by decide +kernel, by decide +kernel, by decide +kernel⟩ ⟨rfl, by cases v <;> rfl⟩ hF hLo hsz hW8 hst hdg (lam_stat GA.1 q2606 q74 hy_X1_lambda_meanWeight_15 np_X1_lambda_meanWeight_15 (Or.inl rfl) q2607 (by decide +kernel)) r1 hf kk kx
theorem np_X1_lambda_meanWeight_16 : npar yX1_lambda_meanWeight_16.desc 1 := by unfold npar; decide +kernel
theorem hy_X1_lambda_meanWeight_16 : yX1_lambda_meanWeight_16.cls ≠ "java/lang/invoke/MethodHandle" ∧ yX1_lambda_meanWeight_16.cls ≠ "java/lang/invoke/VarHandle" := by decide +kernel
theorem w_X1_lambda_meanWeight_16 (GA : GA l s0 a0 K lam) (v0 : Option Nat) : AMet l s0 K lam yX1_lambda_meanWeight_16 (Cond.code yX1_lambda_meanWeight_16 cX1_lambda_meanWeight_16 (1 : Nat) (Option.some ClassFile.FieldType.boolean)) 1 20 [vR v0] oI (f_X1_lambda_meanWeight_16 K v0) := by
  refine AMet.of GA.1 (plainFor_of_name (by decide +kernel)) (Nat.le_of_ble_eq_true rfl) ?_
  intro b r hf p e s m args below meth c X hr hlk hnm hnd ht ls hl
  have Z : WZ l s0 a0 K p s m c cX1_lambda_meanWeight_16 yX1_lambda_meanWeight_16.cls 1 b { frames := 1, cells := K 0 - aX b, slots := K 1 - aW b, locals := 20 } 1 20 meth [] (some (.boolean)) yX1_lambda_meanWeight_16 := ⟨⟨X, GA.2.1, GA.2.2.1, rfl, rfl, Nat.le_refl _, Nat.le_refl _⟩, tab_nil ht, hr, hlk, hnm, hnd⟩
  unfold f_X1_lambda_meanWeight_16 at hf
  clear hr hlk hnm hnd ht
  refine a_aload_n (pc := 0) X dX1_lambda_meanWeight_16_0 rfl hl 0 rfl ?_
  obtain ⟨a1, rfl, ⟨hk, hf⟩ | ⟨-, hf⟩⟩ := dv_some hf
  rotate_left
  · exact fl_none hf
  refine a_callb (pc := 1) (rs := []) (avs := [vR (some a1)]) Z.1 (w_X8_isGone GA (some a1)) (Or.inl rfl) q2215 q107 (by decide) (by decide) dX1_lambda_meanWeight_16_1 hl.1 (Nat.le_of_ble_eq_true rfl) hf (ct_V hk ⟨by decide, by decide⟩ X (Or.inl rfl) q2215 q2608 q2213 q2214 hy_X8_isGone np_X8_isGone rfl dX1_lambda_meanWeight_16_1) (fun q h he hX => a_out (unc_of Z.2.1 rfl) Z.2.2.2.1 he hX) (fun x1 h hf => ?kk1)
  refine AW.eq (g2 := F0 m 4 ls [.int x1]) rfl ?_
  refine AW.lift2 (fun _ _ _ _ k1 k2 => lv_if_ne (pc := 4) (tgt := 11) X.2.2.1 X.2.2.2.1 dX1_lambda_meanWeight_16_4 rfl k2 k1) (fun c => ?_) (fun c => ?_)
  · have hf := ite_t c hf
    refine AW.lift (fun _ _ _ _ k => lv_iconst (pc := 7) (v := (1 : Int32)) X.2.2.1 X.2.2.2.1 dX1_lambda_meanWeight_16_7 rfl k) ?_
    refine AW.lift (fun _ _ _ _ k => lv_goto (pc := 8) (tgt := 12) X.2.2.1 X.2.2.2.1 dX1_lambda_meanWeight_16_8 rfl k) ?_
    exact a_zreturn X Z.2.2.1 rfl Z.2.2.2.1 dX1_lambda_meanWeight_16_12 hf
  · have hf := ite_f c hf
    refine AW.lift (fun _ _ _ _ k => lv_iconst (pc := 11) (v := (0 : Int32)) X.2.2.1 X.2.2.2.1 dX1_lambda_meanWeight_16_11 rfl k) ?_
    exact a_zreturn X Z.2.2.1 rfl Z.2.2.2.1 dX1_lambda_meanWeight_16_12 hf
theorem cl_222 {Q : State → Prop} {h : AH} {cc : ByteArray} {own : String} {nL pc : Nat} {ls : Array Slot} {st : List Value} {F Lo idx cnt a : Nat} {v : Option Nat} {rs : List TV} (X : WX l s0 a0 K p s m c cc own nL b R F Lo) (GA : GA l s0 a0 K lam) (hk : aK h a = 222) (hlink : Cond.methodLink own idx ({ cls := "JumpHall$Test", name := "is", desc := "(LJumpHall$Jumper;)Z" } : MethodName) ∈ lw_all) (hF : 3 ≤ F) (hLo : 69 ≤ Lo) (hsz : ls.size = nL) (hW8 : (rs.map tcat).sum ≤ 8) (hst : st = va_rf v :: .ref a :: rs.map tvv) (hdg : decode cc pc = .ok (.invokeinterface idx cnt, 5)) : LC s0 K lam p l e R s m args below meth c Q b h pc ls (rs.map tvv) st (c_lam222 K (some a) v) := by
  intro r1 hf kk kx
  unfold c_lam222 at hf
  obtain ⟨hf, hfit⟩ := bz_some hf
  refine lam_core (caps := []) (arg := vR v) (f := f_X1_lambda_meanWeight_16 K  v) (x := ⟨"JumpHall", "meanWeight", "()F"⟩) (fs := []) (ig := .invokestatic 17) X (siG_222 GA) hfb_22 (lw_all_tbl q3550) ⟨by decide, by decide⟩ rfl hk (y := yX1_lambda_meanWeight_16) (by decide +kernel) hy_X1_lambda_meanWeight_16 (by decide +kernel) ⟨by decide, by decide⟩ hlink (gf X.1.1 X.1.2.1 q1842 rfl) (gf X.1.1 X.1.2.1 q1841 rfl) (by decide +kernel) (by unfold npar; decide +kernel) (w_X1_lambda_meanWeight_16 GA  v) (Or.inl rfl) q2618 q74 (fun {r2} {w} h2 hw => hfit w (by rw [hf] at h2; cases h2; exact hw)) rfl (fun j v hj => absurd hj (by simp)) ⟨(fun j i hj => absurd hj (by simp)), by decide +kernel, by decide +kernel, by decide +kernel⟩ ⟨rfl, by cases v <;> rfl⟩ hF hLo hsz hW8 hst hdg (lam_stat GA.1 q2617 q74 hy_X1_lambda_meanWeight_16 np_X1_lambda_meanWeight_16 (Or.inl rfl) q2618 (by decide +kernel)) r1 hf kk kx
theorem np_X1_lambda_account_17 : npar yX1_lambda_account_17.desc 2 := by unfold npar; decide +kernel
theorem hy_X1_lambda_account_17 : yX1_lambda_account_17.cls ≠ "java/lang/invoke/MethodHandle" ∧ yX1_lambda_account_17.cls ≠ "java/lang/invoke/VarHandle" := by decide +kernel
theorem w_X1_lambda_account_17 (GA : GA l s0 a0 K lam) (v0 : Int32) (v1 : Option Nat) : AMet l s0 K lam yX1_lambda_account_17 (Cond.code yX1_lambda_account_17 cX1_lambda_account_17 (2 : Nat) (Option.some ClassFile.FieldType.boolean)) 0 0 [vI v0, vR v1] oI (f_X1_lambda_account_17 K v0 v1) := by
  refine AMet.of GA.1 (plainFor_of_name (by decide +kernel)) (Nat.le_of_ble_eq_true rfl) ?_
  intro b r hf p e s m args below meth c X hr hlk hnm hnd ht ls hl
  have Z : WZ l s0 a0 K p s m c cX1_lambda_account_17 yX1_lambda_account_17.cls 2 b { frames := 0, cells := K 0 - aX b, slots := K 1 - aW b, locals := 0 } 0 0 meth [] (some (.boolean)) yX1_lambda_account_17 := ⟨⟨X, GA.2.1, GA.2.2.1, rfl, rfl, Nat.le_refl _, Nat.le_refl _⟩, tab_nil ht, hr, hlk, hnm, hnd⟩
  unfold f_X1_lambda_account_17 at hf
  clear hr hlk hnm hnd ht
  refine a_aload_n (pc := 0) X dX1_lambda_account_17_0 rfl hl 1 rfl ?_
  refine a_getN (pc := 1) (φ := 504) pI_t X Z.1.2.1 (gnF X.1 X.2.1 q923) (fun _ q => q) (by decide) dX1_lambda_account_17_1 hf (fun x1 hf => ?_)
  refine a_iload_n (pc := 4) X dX1_lambda_account_17_4 rfl hl 0 rfl ?_
  refine AW.lift (fun _ _ _ _ k => lv_iconst (pc := 5) (v := (4 : Int32)) X.2.2.1 X.2.2.2.1 dX1_lambda_account_17_5 rfl k) ?_
  refine AW.lift (fun _ _ _ _ k => lv_isub (pc := 6) X.2.2.1 X.2.2.2.1 dX1_lambda_account_17_6 k) ?_
  refine AW.lift2 (fun _ _ _ _ k1 k2 => lv_icmp_ne (pc := 7) (tgt := 14) X.2.2.1 X.2.2.2.1 dX1_lambda_account_17_7 rfl k2 k1) (fun c => ?_) (fun c => ?_)
  · have hf := ite_t c hf
    refine AW.lift (fun _ _ _ _ k => lv_iconst (pc := 10) (v := (1 : Int32)) X.2.2.1 X.2.2.2.1 dX1_lambda_account_17_10 rfl k) ?_
    refine AW.lift (fun _ _ _ _ k => lv_goto (pc := 11) (tgt := 15) X.2.2.1 X.2.2.2.1 dX1_lambda_account_17_11 rfl k) ?_
    exact a_zreturn X Z.2.2.1 rfl Z.2.2.2.1 dX1_lambda_account_17_15 hf
  · have hf := ite_f c hf
    refine AW.lift (fun _ _ _ _ k => lv_iconst (pc := 14) (v := (0 : Int32)) X.2.2.1 X.2.2.2.1 dX1_lambda_account_17_14 rfl k) ?_
    exact a_zreturn X Z.2.2.1 rfl Z.2.2.2.1 dX1_lambda_account_17_15 hf
theorem cl_223 {Q : State → Prop} {h : AH} {cc : ByteArray} {own : String} {nL pc : Nat} {ls : Array Slot} {st : List Value} {F Lo idx cnt a : Nat} {v : Option Nat} {rs : List TV} (X : WX l s0 a0 K p s m c cc own nL b R F Lo) (GA : GA l s0 a0 K lam) (hk : aK h a = 223) (hlink : Cond.methodLink own idx ({ cls := "JumpHall$Test", name := "is", desc := "(LJumpHall$Jumper;)Z" } : MethodName) ∈ lw_all) (hF : 2 ≤ F) (hLo : 50 ≤ Lo) (hsz : ls.size = nL) (hW8 : (rs.map tcat).sum ≤ 8) (hst : st = va_rf v :: .ref a :: rs.map tvv) (hdg : decode cc pc = .ok (.invokeinterface idx cnt, 5)) : LC s0 K lam p l e R s m args below meth c Q b h pc ls (rs.map tvv) st (c_lam223 K (some a) v) := by
  intro r1 hf kk kx
  unfold c_lam223 at hf
  obtain ⟨a0, c0, e0, -, hp0, hf⟩ := gL_some hf
  cases e0
  obtain ⟨hf, hfit⟩ := bz_some hf
  refine lam_core (caps := [vI c0]) (arg := vR v) (f := f_X1_lambda_account_17 K c0 v) (x := ⟨"JumpHall", "account", "(I)I"⟩) (fs := [15]) (ig := .invokestatic 23) X (siG_223 GA) hfb_23 (lw_all_tbl q3550) ⟨by decide, by decide⟩ rfl hk (y := yX1_lambda_account_17) (by decide +kernel) hy_X1_lambda_account_17 (by decide +kernel) ⟨by decide, by decide⟩ hlink (gf X.1.1 X.1.2.1 q1842 rfl) (gf X.1.1 X.1.2.1 q1841 rfl) (by decide +kernel) (by unfold npar; decide +kernel) (w_X1_lambda_account_17 GA c0 v) (Or.inl rfl) q2643 q74 (fun {r2} {w} h2 hw => hfit w (by rw [hf] at h2; cases h2; exact hw)) rfl (fun j v hj => by
    rcases j with _ | j
    · exact (Option.some.inj hj : vI c0 = v) ▸ pI_t hp0
    · exact absurd hj (by simp)) ⟨(fun j i hj => by
    rcases j with _ | j
    · obtain rfl : 15 = i := Option.some.inj hj
      exact ⟨by decide +kernel, by decide +kernel⟩
    · exact absurd hj (by simp)), by decide +kernel, by decide +kernel, by decide +kernel⟩ ⟨rfl, by cases v <;> rfl⟩ hF hLo hsz hW8 hst hdg (lam_stat GA.1 q2642 q74 hy_X1_lambda_account_17 np_X1_lambda_account_17 (Or.inl rfl) q2643 (by decide +kernel)) r1 hf kk kx
theorem np_X8_hasSocks : npar yX8_hasSocks.desc 0 := by unfold npar; decide +kernel
theorem hy_X8_hasSocks : yX8_hasSocks.cls ≠ "java/lang/invoke/MethodHandle" ∧ yX8_hasSocks.cls ≠ "java/lang/invoke/VarHandle" := by decide +kernel
theorem w_X8_hasSocks (GA : GA l s0 a0 K lam) (v0 : Option Nat) : AMet l s0 K lam yX8_hasSocks (Cond.code yX8_hasSocks cX8_hasSocks (1 : Nat) (Option.some ClassFile.FieldType.boolean)) 0 0 [vR v0] oI (f_X8_hasSocks K v0) := by
  refine AMet.of GA.1 (plainFor_of_name (by decide +kernel)) (Nat.le_of_ble_eq_true rfl) ?_
  intro b r hf p e s m args below meth c X hr hlk hnm hnd ht ls hl
  have Z : WZ l s0 a0 K p s m c cX8_hasSocks yX8_hasSocks.cls 1 b { frames := 0, cells := K 0 - aX b, slots := K 1 - aW b, locals := 0 } 0 0 meth [] (some (.boolean)) yX8_hasSocks := ⟨⟨X, GA.2.1, GA.2.2.1, rfl, rfl, Nat.le_refl _, Nat.le_refl _⟩, tab_nil ht, hr, hlk, hnm, hnd⟩
  unfold f_X8_hasSocks at hf
  clear hr hlk hnm hnd ht
  refine a_aload_n (pc := 0) X dX8_hasSocks_0 rfl hl 0 rfl ?_
  refine a_get (pc := 1) (φ := 506) pI_t X Z.1.2.1 (gw X.1 X.2.1 q927) (fun _ q => q) (by decide) dX8_hasSocks_1 hf (fun x1 hf => ?_)
  refine AW.lift (fun _ _ _ _ k => lv_iconst (pc := 4) (v := (-1 : Int32)) X.2.2.1 X.2.2.2.1 dX8_hasSocks_4 rfl k) ?_
  refine AW.lift2 (fun _ _ _ _ k1 k2 => lv_icmp_eq (pc := 5) (tgt := 12) X.2.2.1 X.2.2.2.1 dX8_hasSocks_5 rfl k1 k2) (fun c => ?_) (fun c => ?_)
  · have hf := ite_t c hf
    refine AW.lift (fun _ _ _ _ k => lv_iconst (pc := 12) (v := (0 : Int32)) X.2.2.1 X.2.2.2.1 dX8_hasSocks_12 rfl k) ?_
    exact a_zreturn X Z.2.2.1 rfl Z.2.2.2.1 dX8_hasSocks_13 hf
  · have hf := ite_f c hf
    refine AW.lift (fun _ _ _ _ k => lv_iconst (pc := 8) (v := (1 : Int32)) X.2.2.1 X.2.2.2.1 dX8_hasSocks_8 rfl k) ?_
    refine AW.lift (fun _ _ _ _ k => lv_goto (pc := 9) (tgt := 13) X.2.2.1 X.2.2.2.1 dX8_hasSocks_9 rfl k) ?_
    exact a_zreturn X Z.2.2.1 rfl Z.2.2.2.1 dX8_hasSocks_13 hf
theorem np_X1_lambda_account_18 : npar yX1_lambda_account_18.desc 1 := by unfold npar; decide +kernel
theorem hy_X1_lambda_account_18 : yX1_lambda_account_18.cls ≠ "java/lang/invoke/MethodHandle" ∧ yX1_lambda_account_18.cls ≠ "java/lang/invoke/VarHandle" := by decide +kernel
theorem w_X1_lambda_account_18 (GA : GA l s0 a0 K lam) (v0 : Option Nat) : AMet l s0 K lam yX1_lambda_account_18 (Cond.code yX1_lambda_account_18 cX1_lambda_account_18 (1 : Nat) (Option.some ClassFile.FieldType.boolean)) 1 20 [vR v0] oI (f_X1_lambda_account_18 K v0) := by
  refine AMet.of GA.1 (plainFor_of_name (by decide +kernel)) (Nat.le_of_ble_eq_true rfl) ?_
  intro b r hf p e s m args below meth c X hr hlk hnm hnd ht ls hl
  have Z : WZ l s0 a0 K p s m c cX1_lambda_account_18 yX1_lambda_account_18.cls 1 b { frames := 1, cells := K 0 - aX b, slots := K 1 - aW b, locals := 20 } 1 20 meth [] (some (.boolean)) yX1_lambda_account_18 := ⟨⟨X, GA.2.1, GA.2.2.1, rfl, rfl, Nat.le_refl _, Nat.le_refl _⟩, tab_nil ht, hr, hlk, hnm, hnd⟩
  unfold f_X1_lambda_account_18 at hf
  clear hr hlk hnm hnd ht
  refine a_aload_n (pc := 0) X dX1_lambda_account_18_0 rfl hl 0 rfl ?_
  obtain ⟨a1, rfl, ⟨hk, hf⟩ | ⟨-, hf⟩⟩ := dv_some hf
  rotate_left
  · exact fl_none hf
  refine a_callb (pc := 1) (rs := []) (avs := [vR (some a1)]) Z.1 (w_X8_hasSocks GA (some a1)) (Or.inl rfl) q2031 q107 (by decide) (by decide) dX1_lambda_account_18_1 hl.1 (Nat.le_of_ble_eq_true rfl) hf (ct_V hk ⟨by decide, by decide⟩ X (Or.inl rfl) q2031 q2646 q2029 q2030 hy_X8_hasSocks np_X8_hasSocks rfl dX1_lambda_account_18_1) (fun q h he hX => a_out (unc_of Z.2.1 rfl) Z.2.2.2.1 he hX) (fun x1 h hf => ?kk1)
  refine AW.eq (g2 := F0 m 4 ls [.int x1]) rfl ?_
  obtain ⟨hg, hf⟩ := chk_some hf
  exact a_zreturn X Z.2.2.1 hg Z.2.2.2.1 dX1_lambda_account_18_4 hf
theorem cl_224 {Q : State → Prop} {h : AH} {cc : ByteArray} {own : String} {nL pc : Nat} {ls : Array Slot} {st : List Value} {F Lo idx cnt a : Nat} {v : Option Nat} {rs : List TV} (X : WX l s0 a0 K p s m c cc own nL b R F Lo) (GA : GA l s0 a0 K lam) (hk : aK h a = 224) (hlink : Cond.methodLink own idx ({ cls := "JumpHall$Test", name := "is", desc := "(LJumpHall$Jumper;)Z" } : MethodName) ∈ lw_all) (hF : 3 ≤ F) (hLo : 69 ≤ Lo) (hsz : ls.size = nL) (hW8 : (rs.map tcat).sum ≤ 8) (hst : st = va_rf v :: .ref a :: rs.map tvv) (hdg : decode cc pc = .ok (.invokeinterface idx cnt, 5)) : LC s0 K lam p l e R s m args below meth c Q b h pc ls (rs.map tvv) st (c_lam224 K (some a) v) := by
  intro r1 hf kk kx
  unfold c_lam224 at hf
  obtain ⟨hf, hfit⟩ := bz_some hf
  refine lam_core (caps := []) (arg := vR v) (f := f_X1_lambda_account_18 K  v) (x := ⟨"JumpHall", "account", "(I)I"⟩) (fs := []) (ig := .invokestatic 17) X (siG_224 GA) hfb_24 (lw_all_tbl q3550) ⟨by decide, by decide⟩ rfl hk (y := yX1_lambda_account_18) (by decide +kernel) hy_X1_lambda_account_18 (by decide +kernel) ⟨by decide, by decide⟩ hlink (gf X.1.1 X.1.2.1 q1842 rfl) (gf X.1.1 X.1.2.1 q1841 rfl) (by decide +kernel) (by unfold npar; decide +kernel) (w_X1_lambda_account_18 GA  v) (Or.inl rfl) q2645 q74 (fun {r2} {w} h2 hw => hfit w (by rw [hf] at h2; cases h2; exact hw)) rfl (fun j v hj => absurd hj (by simp)) ⟨(fun j i hj => absurd hj (by simp)), by decide +kernel, by decide +kernel, by decide +kernel⟩ ⟨rfl, by cases v <;> rfl⟩ hF hLo hsz hW8 hst hdg (lam_stat GA.1 q2644 q74 hy_X1_lambda_account_18 np_X1_lambda_account_18 (Or.inl rfl) q2645 (by decide +kernel)) r1 hf kk kx
theorem w_X2_lowest_b8 {r : Except Nat (Option Nat) × AH} (GA : GA l s0 a0 K lam) (Z : WZ l s0 a0 K p s m c cX2_lowest yX2_lowest.cls 4 b R 9 422 meth [] (some (.object "JumpHall$Jumper")) yX2_lowest) (v1 : Option Nat) (v2 : Option Nat)  (rc8 : AM (Option Nat)) (hrc8 : ∀  (h : AH) (ls : Array Slot), LV ls 4 [(1, vR v1), (2, vR v2)] → rc8 h = some r → AW s0 K lam p l e R s m args below meth c (AQ s0 K lam below oR b r s) b h (F0 m 8 ls [])) {h : AH} {ls : Array Slot} (hl : LV ls 4 [(1, vR v1), (2, vR v2)]) (hf : f_X2_lowest_b8 K rc8 v1 v2 h = some r) : AW s0 K lam p l e R s m args below meth c (AQ s0 K lam below oR b r s) b h (F0 m 8 ls []) := by
  unfold f_X2_lowest_b8 at hf
  have X := Z.1.1
  refine a_aload_n (pc := 8) X dX2_lowest_8 rfl hl 1 rfl ?_
  obtain ⟨a9, rfl, ⟨hk, hf⟩ | ⟨-, hf⟩⟩ := dv_some hf
  rotate_left
  · exact fl_none hf
  refine a_callb (pc := 9) (rs := []) (avs := [vR (some a9)]) Z.1 (w_J14_hasNext GA (some a9)) (Or.inl rfl) q376 q96 (by decide) (by decide) dX2_lowest_9 hl.1 (Nat.le_of_ble_eq_true rfl) hf (ct_F (x := ({ cls := "java/util/Iterator", name := "hasNext", desc := "()Z" } : MethodName)) hk ⟨by decide, by decide⟩ X (Or.inl rfl) q376 q368 (gf X.1 X.2.1 q370 rfl) (gf X.1 X.2.1 q369 rfl) (gf X.1 X.2.1 q375 rfl) (gf X.1 X.2.1 q373 rfl) (gf X.1 X.2.1 q371 rfl) q374 q372 ⟨by decide, by decide⟩ np_J14_hasNext rfl dX2_lowest_9) (fun q h he hX => a_out (unc_of Z.2.1 rfl) Z.2.2.2.1 he hX) (fun x9 h hf => ?kk9)
  refine AW.eq (g2 := F0 m 14 ls [.int x9]) rfl ?_
  refine AW.lift2 (fun _ _ _ _ k1 k2 => lv_if_eq (pc := 14) (tgt := 42) X.2.2.1 X.2.2.2.1 dX2_lowest_14 rfl k1 k2) (fun c => ?_) (fun c => ?_)
  · have hf := ite_t c hf
    refine a_null (pc := 42) X dX2_lowest_42 ?_
    exact a_areturn X Z.2.2.1 (Or.inl ⟨_, rfl⟩) Z.2.2.2.1 dX2_lowest_43 hf
  · have hf := ite_f c hf
    refine a_aload_n (pc := 17) X dX2_lowest_17 rfl hl 1 rfl ?_
    rcases dv_someS hf with ⟨hk, hf⟩ | ⟨-, hf⟩
    rotate_left
    · exact fl_none hf
    refine a_callb (pc := 18) (rs := []) (avs := [vR (some a9)]) Z.1 (w_J14_next GA (some a9)) (Or.inl rfl) q397 q96 (by decide) (by decide) dX2_lowest_18 hl.1 (Nat.le_of_ble_eq_true rfl) hf (ct_F (x := ({ cls := "java/util/Iterator", name := "next", desc := "()Ljava/lang/Object;" } : MethodName)) hk ⟨by decide, by decide⟩ X (Or.inl rfl) q397 q390 (gf X.1 X.2.1 q392 rfl) (gf X.1 X.2.1 q391 rfl) (gf X.1 X.2.1 q396 rfl) (gf X.1 X.2.1 q394 rfl) (gf X.1 X.2.1 q371 rfl) q395 q393 ⟨by decide, by decide⟩ np_J14_next rfl dX2_lowest_18) (fun q h he hX => a_out (unc_of Z.2.1 rfl) Z.2.2.2.1 he hX) (fun x18 h hf => ?kk18)
    refine AW.eq (g2 := F0 m 23 ls [va_rf x18]) rfl ?_
    refine a_checkcast (pc := 23) X (gw X.1 X.2.1 q899) (cs_JumpHall_Jumper GA) dX2_lowest_23 hf (fun hf => ?_)
    refine a_astore_n (pc := 26) X dX2_lowest_26 rfl hl (by decide) (lv' := [(3, vR x18), (1, vR v1), (2, vR (some a9))]) rfl (fun ls hl => ?_)
    refine a_aload_n (pc := 27) X dX2_lowest_27 rfl hl 1 rfl ?_
    refine a_aload_n (pc := 28) X dX2_lowest_28 rfl hl 0 rfl ?_
    obtain ⟨a29, rfl⟩ := dv_ref hf
    refine' a_virt hf ?kv29 ?cs29
    case cs29 =>
      intro hf kk
      rcases dv_someS hf with ⟨hk, hf⟩ | ⟨-, hf⟩
      · refine a_lamb (cl_203 (pc := 29) (rs := []) Z.1 GA hk q1840 (by decide) (by decide) hl.1 (Nat.le_of_ble_eq_true rfl) rfl dX2_lowest_29) hf (fun q h he hX => a_out (unc_of Z.2.1 rfl) Z.2.2.2.1 he hX) (fun v h hf => kk v h hf)
      rcases dv_someS hf with ⟨hk, hf⟩ | ⟨-, hf⟩
      · refine a_lamb (cl_205 (pc := 29) (rs := []) Z.1 GA hk q1840 (by decide) (by decide) hl.1 (Nat.le_of_ble_eq_true rfl) rfl dX2_lowest_29) hf (fun q h he hX => a_out (unc_of Z.2.1 rfl) Z.2.2.2.1 he hX) (fun v h hf => kk v h hf)
      rcases dv_someS hf with ⟨hk, hf⟩ | ⟨-, hf⟩
      · refine a_lamb (cl_206 (pc := 29) (rs := []) Z.1 GA hk q1840 (by decide) (by decide) hl.1 (Nat.le_of_ble_eq_true rfl) rfl dX2_lowest_29) hf (fun q h he hX => a_out (unc_of Z.2.1 rfl) Z.2.2.2.1 he hX) (fun v h hf => kk v h hf)
      rcases dv_someS hf with ⟨hk, hf⟩ | ⟨-, hf⟩
      · refine a_lamb (cl_209 (pc := 29) (rs := []) Z.1 GA hk q1840 (by decide) (by decide) hl.1 (Nat.le_of_ble_eq_true rfl) rfl dX2_lowest_29) hf (fun q h he hX => a_out (unc_of Z.2.1 rfl) Z.2.2.2.1 he hX) (fun v h hf => kk v h hf)
      rcases dv_someS hf with ⟨hk, hf⟩ | ⟨-, hf⟩
      · refine a_lamb (cl_210 (pc := 29) (rs := []) Z.1 GA hk q1840 (by decide) (by decide) hl.1 (Nat.le_of_ble_eq_true rfl) rfl dX2_lowest_29) hf (fun q h he hX => a_out (unc_of Z.2.1 rfl) Z.2.2.2.1 he hX) (fun v h hf => kk v h hf)
      rcases dv_someS hf with ⟨hk, hf⟩ | ⟨-, hf⟩
      · refine a_lamb (cl_213 (pc := 29) (rs := []) Z.1 GA hk q1840 (by decide) (by decide) hl.1 (Nat.le_of_ble_eq_true rfl) rfl dX2_lowest_29) hf (fun q h he hX => a_out (unc_of Z.2.1 rfl) Z.2.2.2.1 he hX) (fun v h hf => kk v h hf)
      rcases dv_someS hf with ⟨hk, hf⟩ | ⟨-, hf⟩
      · refine a_lamb (cl_221 (pc := 29) (rs := []) Z.1 GA hk q1840 (by decide) (by decide) hl.1 (Nat.le_of_ble_eq_true rfl) rfl dX2_lowest_29) hf (fun q h he hX => a_out (unc_of Z.2.1 rfl) Z.2.2.2.1 he hX) (fun v h hf => kk v h hf)
      rcases dv_someS hf with ⟨hk, hf⟩ | ⟨-, hf⟩
      · refine a_lamb (cl_222 (pc := 29) (rs := []) Z.1 GA hk q1840 (by decide) (by decide) hl.1 (Nat.le_of_ble_eq_true rfl) rfl dX2_lowest_29) hf (fun q h he hX => a_out (unc_of Z.2.1 rfl) Z.2.2.2.1 he hX) (fun v h hf => kk v h hf)
      rcases dv_someS hf with ⟨hk, hf⟩ | ⟨-, hf⟩
      · refine a_lamb (cl_223 (pc := 29) (rs := []) Z.1 GA hk q1840 (by decide) (by decide) hl.1 (Nat.le_of_ble_eq_true rfl) rfl dX2_lowest_29) hf (fun q h he hX => a_out (unc_of Z.2.1 rfl) Z.2.2.2.1 he hX) (fun v h hf => kk v h hf)
      rcases dv_someS hf with ⟨hk, hf⟩ | ⟨-, hf⟩
      · refine a_lamb (cl_224 (pc := 29) (rs := []) Z.1 GA hk q1840 (by decide) (by decide) hl.1 (Nat.le_of_ble_eq_true rfl) rfl dX2_lowest_29) hf (fun q h he hX => a_out (unc_of Z.2.1 rfl) Z.2.2.2.1 he hX) (fun v h hf => kk v h hf)
      exact fl_none hf
    case kv29 =>
    intro x29 h hf
    refine AW.eq (g2 := F0 m 34 ls [.int x29]) rfl ?_
    refine AW.lift2 (fun _ _ _ _ k1 k2 => lv_if_eq (pc := 34) (tgt := 39) X.2.2.1 X.2.2.2.1 dX2_lowest_34 rfl k1 k2) (fun c => ?_) (fun c => ?_)
    · have hf := ite_t c hf
      refine AW.lift (fun _ _ _ _ k => lv_goto (pc := 39) (tgt := 8) X.2.2.1 X.2.2.2.1 dX2_lowest_39 rfl k) ?_
      exact hrc8  _ _ (hl.sub [1, 2] rfl) hf
    · have hf := ite_f c hf
      refine a_aload_n (pc := 37) X dX2_lowest_37 rfl hl 0 rfl ?_
      exact a_areturn X Z.2.2.1 (Or.inl ⟨_, rfl⟩) Z.2.2.2.1 dX2_lowest_38 hf
theorem w_X2_lowest_l8 {r : Except Nat (Option Nat) × AH} (GA : GA l s0 a0 K lam) (Z : WZ l s0 a0 K p s m c cX2_lowest yX2_lowest.cls 4 b R 9 422 meth [] (some (.object "JumpHall$Jumper")) yX2_lowest) (v1 : Option Nat) (v2 : Option Nat)  : ∀ (n : Nat)  (h : AH) (ls : Array Slot), LV ls 4 [(1, vR v1), (2, vR v2)] → f_X2_lowest_l8 K v1 v2 n  h = some r → AW s0 K lam p l e R s m args below meth c (AQ s0 K lam below oR b r s) b h (F0 m 8 ls []) := by
  intro n
  induction n with
  | zero => intro  h ls hl hf; exact fl_no (h := h) hf
  | succ n ih => intro  h ls hl hf; exact w_X2_lowest_b8 GA Z v1 v2 (f_X2_lowest_l8 K v1 v2 n) ih hl hf
theorem np_X2_lowest : npar yX2_lowest.desc 1 := by unfold npar; decide +kernel
theorem hy_X2_lowest : yX2_lowest.cls ≠ "java/lang/invoke/MethodHandle" ∧ yX2_lowest.cls ≠ "java/lang/invoke/VarHandle" := by decide +kernel
theorem w_X2_lowest (GA : GA l s0 a0 K lam) (v0 : Option Nat) (v1 : Option Nat) : AMet l s0 K lam yX2_lowest (Cond.code yX2_lowest cX2_lowest (4 : Nat) (Option.some (ClassFile.FieldType.object "JumpHall$Jumper"))) 9 422 [vR v0, vR v1] oR (f_X2_lowest K v0 v1) := by
  refine AMet.of GA.1 (plainFor_of_name (by decide +kernel)) (Nat.le_of_ble_eq_true rfl) ?_
  intro b r hf p e s m args below meth c X hr hlk hnm hnd ht ls hl
  have Z : WZ l s0 a0 K p s m c cX2_lowest yX2_lowest.cls 4 b { frames := 9, cells := K 0 - aX b, slots := K 1 - aW b, locals := 422 } 9 422 meth [] (some (.object "JumpHall$Jumper")) yX2_lowest := ⟨⟨X, GA.2.1, GA.2.2.1, rfl, rfl, Nat.le_refl _, Nat.le_refl _⟩, tab_nil ht, hr, hlk, hnm, hnd⟩
  unfold f_X2_lowest at hf
  clear hr hlk hnm hnd ht
  refine a_aload_n (pc := 0) X dX2_lowest_0 rfl hl 0 rfl ?_
  refine a_get (pc := 1) (φ := 301) pR_t X Z.1.2.1 (gw X.1 X.2.1 q230) (fun _ q => q) (by decide) dX2_lowest_1 hf (fun x1 hf => ?_)
  obtain ⟨a4, rfl, ⟨hk, hf⟩ | ⟨-, hf⟩⟩ := dv_some hf
  rotate_left
  · exact fl_none hf
  refine a_callb (pc := 4) (rs := []) (avs := [vR (some a4)]) Z.1 (w_J2_iterator GA (some a4)) (Or.inl rfl) q347 q78 (by decide) (by decide) dX2_lowest_4 hl.1 (Nat.le_of_ble_eq_true rfl) hf (ct_V hk ⟨by decide, by decide⟩ X (Or.inl rfl) q347 q344 q345 q346 hy_J2_iterator np_J2_iterator rfl dX2_lowest_4) (fun q h he hX => a_out (unc_of Z.2.1 rfl) Z.2.2.2.1 he hX) (fun x4 h hf => ?kk4)
  refine AW.eq (g2 := F0 m 7 ls [va_rf x4]) rfl ?_
  refine a_astore_n (pc := 7) X dX2_lowest_7 rfl hl (by decide) (lv' := [(2, vR x4), (0, vR v0), (1, vR v1)]) rfl (fun ls hl => ?_)
  exact w_X2_lowest_l8 GA Z v1 x4  FU  _ _ (hl.sub [2, 0] rfl) hf
theorem np_X7_isBroken : npar yX7_isBroken.desc 1 := by unfold npar; decide +kernel
theorem hy_X7_isBroken : yX7_isBroken.cls ≠ "java/lang/invoke/MethodHandle" ∧ yX7_isBroken.cls ≠ "java/lang/invoke/VarHandle" := by decide +kernel
theorem w_X7_isBroken (GA : GA l s0 a0 K lam) (v0 : Option Nat) (v1 : Int32) : AMet l s0 K lam yX7_isBroken (Cond.code yX7_isBroken cX7_isBroken (2 : Nat) (Option.some ClassFile.FieldType.boolean)) 0 0 [vR v0, vI v1] oI (f_X7_isBroken K v0 v1) := by
  refine AMet.of GA.1 (plainFor_of_name (by decide +kernel)) (Nat.le_of_ble_eq_true rfl) ?_
  intro b r hf p e s m args below meth c X hr hlk hnm hnd ht ls hl
  have Z : WZ l s0 a0 K p s m c cX7_isBroken yX7_isBroken.cls 2 b { frames := 0, cells := K 0 - aX b, slots := K 1 - aW b, locals := 0 } 0 0 meth [] (some (.boolean)) yX7_isBroken := ⟨⟨X, GA.2.1, GA.2.2.1, rfl, rfl, Nat.le_refl _, Nat.le_refl _⟩, tab_nil ht, hr, hlk, hnm, hnd⟩
  unfold f_X7_isBroken at hf
  clear hr hlk hnm hnd ht
  refine a_aload_n (pc := 0) X dX7_isBroken_0 rfl hl 0 rfl ?_
  refine a_get (pc := 1) (φ := 400) pR_t X Z.1.2.1 (gw X.1 X.2.1 q813) (fun _ q => q) (by decide) dX7_isBroken_1 hf (fun x1 hf => ?_)
  refine a_iload_n (pc := 4) X dX7_isBroken_4 rfl hl 1 rfl ?_
  refine a_iaload (pc := 5) X dX7_isBroken_5 hf (fun x5 hf => ?_)
  refine AW.lift (fun _ _ _ _ k => lv_bipush (pc := 6) (v := (9 : Int32)) X.2.2.1 X.2.2.2.1 dX7_isBroken_6 rfl k) ?_
  refine AW.lift2 (fun _ _ _ _ k1 k2 => lv_icmp_ne (pc := 8) (tgt := 15) X.2.2.1 X.2.2.2.1 dX7_isBroken_8 rfl k2 k1) (fun c => ?_) (fun c => ?_)
  · have hf := ite_t c hf
    refine AW.lift (fun _ _ _ _ k => lv_iconst (pc := 11) (v := (1 : Int32)) X.2.2.1 X.2.2.2.1 dX7_isBroken_11 rfl k) ?_
    refine AW.lift (fun _ _ _ _ k => lv_goto (pc := 12) (tgt := 16) X.2.2.1 X.2.2.2.1 dX7_isBroken_12 rfl k) ?_
    exact a_zreturn X Z.2.2.1 rfl Z.2.2.2.1 dX7_isBroken_16 hf
  · have hf := ite_f c hf
    refine AW.lift (fun _ _ _ _ k => lv_iconst (pc := 15) (v := (0 : Int32)) X.2.2.1 X.2.2.2.1 dX7_isBroken_15 rfl k) ?_
    exact a_zreturn X Z.2.2.1 rfl Z.2.2.2.1 dX7_isBroken_16 hf
theorem w_X7_bears_j25 {r : Except Nat (Int32) × AH} (GA : GA l s0 a0 K lam) (Z : WZ l s0 a0 K p s m c cX7_bears yX7_bears.cls 3 b R 1 21 meth [] (some (.int)) yX7_bears) (v0 : Option Nat) (v2 : Int32) (t0 : Int32) (t1 : Int32) (rc4 : Int32 → Int32 → AM (Int32)) (hrc4 : ∀ (v1 : Int32) (v2 : Int32) (h : AH) (ls : Array Slot), LV ls 3 [(0, vR v0), (1, vI v1), (2, vI v2)] → rc4 v1 v2 h = some r → AW s0 K lam p l e R s m args below meth c (AQ s0 K lam below oI b r s) b h (F0 m 4 ls [])) {h : AH} {ls : Array Slot} (hl : LV ls 3 [(0, vR v0), (2, vI v2)]) (hf : f_X7_bears_j25 K rc4 v0 v2 t0 t1 h = some r) : AW s0 K lam p l e R s m args below meth c (AQ s0 K lam below oI b r s) b h (F0 m 25 ls [.int t0, .int t1]) := by
  unfold f_X7_bears_j25 at hf
  have X := Z.1.1
  refine AW.lift (fun _ _ _ _ k => lv_iadd (pc := 25) X.2.2.1 X.2.2.2.1 dX7_bears_25 k) ?_
  refine a_istore_n (pc := 26) X dX7_bears_26 rfl hl (by decide) (lv' := [(1, vI (t1 + t0)), (0, vR v0), (2, vI v2)]) rfl (fun ls hl => ?_)
  refine a_iinc (pc := 27) (v := (v2 + (1 : Int32))) X dX7_bears_27 hl (k := 2) rfl rfl (by decide) (lv' := [(2, vI (v2 + (1 : Int32))), (1, vI (t1 + t0)), (0, vR v0)]) rfl (fun ls hl => ?_)
  refine AW.lift (fun _ _ _ _ k => lv_goto (pc := 30) (tgt := 4) X.2.2.1 X.2.2.2.1 dX7_bears_30 rfl k) ?_
  exact hrc4 (t1 + t0) (v2 + (1 : Int32)) _ _ (hl.sub [2, 1, 0] rfl) hf
theorem w_X7_bears_b4 {r : Except Nat (Int32) × AH} (GA : GA l s0 a0 K lam) (Z : WZ l s0 a0 K p s m c cX7_bears yX7_bears.cls 3 b R 1 21 meth [] (some (.int)) yX7_bears) (v0 : Option Nat) (v1 : Int32) (v2 : Int32)  (rc4 : Int32 → Int32 → AM (Int32)) (hrc4 : ∀ (v1 : Int32) (v2 : Int32) (h : AH) (ls : Array Slot), LV ls 3 [(0, vR v0), (1, vI v1), (2, vI v2)] → rc4 v1 v2 h = some r → AW s0 K lam p l e R s m args below meth c (AQ s0 K lam below oI b r s) b h (F0 m 4 ls [])) {h : AH} {ls : Array Slot} (hl : LV ls 3 [(0, vR v0), (1, vI v1), (2, vI v2)]) (hf : f_X7_bears_b4 K rc4 v0 v1 v2 h = some r) : AW s0 K lam p l e R s m args below meth c (AQ s0 K lam below oI b r s) b h (F0 m 4 ls []) := by
  unfold f_X7_bears_b4 at hf
  have X := Z.1.1
  refine a_iload_n (pc := 4) X dX7_bears_4 rfl hl 2 rfl ?_
  refine AW.lift (fun _ _ _ _ k => lv_bipush (pc := 5) (v := (8 : Int32)) X.2.2.1 X.2.2.2.1 dX7_bears_5 rfl k) ?_
  refine AW.lift2 (fun _ _ _ _ k1 k2 => lv_icmp_ge (pc := 7) (tgt := 33) X.2.2.1 X.2.2.2.1 dX7_bears_7 rfl k1 k2) (fun c => ?_) (fun c => ?_)
  · have hf := ite_t c hf
    refine a_iload_n (pc := 33) X dX7_bears_33 rfl hl 1 rfl ?_
    exact a_ireturn X Z.2.2.1 Z.2.2.2.1 dX7_bears_34 hf
  · have hf := ite_f c hf
    refine a_iload_n (pc := 10) X dX7_bears_10 rfl hl 1 rfl ?_
    refine a_aload_n (pc := 11) X dX7_bears_11 rfl hl 0 rfl ?_
    refine a_iload_n (pc := 12) X dX7_bears_12 rfl hl 2 rfl ?_
    obtain ⟨a13, rfl, ⟨hk, hf⟩ | ⟨-, hf⟩⟩ := dv_some hf
    rotate_left
    · exact fl_none hf
    refine a_callb (pc := 13) (rs := [vI v1]) (avs := [vR (some a13), vI v2]) Z.1 (w_X7_isBroken GA (some a13) v2) (Or.inl rfl) q1850 q91 (by decide) (by decide) dX7_bears_13 hl.1 (Nat.le_of_ble_eq_true rfl) hf (ct_V hk ⟨by decide, by decide⟩ X (Or.inl rfl) q1850 q1847 q1848 q1849 hy_X7_isBroken np_X7_isBroken rfl dX7_bears_13) (fun q h he hX => a_out (unc_of Z.2.1 rfl) Z.2.2.2.1 he hX) (fun x13 h hf => ?kk13)
    refine AW.eq (g2 := F0 m 16 ls [.int x13, .int v1]) rfl ?_
    refine AW.lift2 (fun _ _ _ _ k1 k2 => lv_if_eq (pc := 16) (tgt := 23) X.2.2.1 X.2.2.2.1 dX7_bears_16 rfl k1 k2) (fun c => ?_) (fun c => ?_)
    · have hf := ite_t c hf
      refine AW.lift (fun _ _ _ _ k => lv_bipush (pc := 23) (v := (12 : Int32)) X.2.2.1 X.2.2.2.1 dX7_bears_23 rfl k) ?_
      exact w_X7_bears_j25 GA Z (some a13) v2 (12 : Int32) v1 rc4 hrc4 (hl.sub [0, 2] rfl) hf
    · have hf := ite_f c hf
      refine AW.lift (fun _ _ _ _ k => lv_iconst (pc := 19) (v := (0 : Int32)) X.2.2.1 X.2.2.2.1 dX7_bears_19 rfl k) ?_
      refine AW.lift (fun _ _ _ _ k => lv_goto (pc := 20) (tgt := 25) X.2.2.1 X.2.2.2.1 dX7_bears_20 rfl k) ?_
      exact w_X7_bears_j25 GA Z (some a13) v2 (0 : Int32) v1 rc4 hrc4 (hl.sub [0, 2] rfl) hf
theorem w_X7_bears_l4 {r : Except Nat (Int32) × AH} (GA : GA l s0 a0 K lam) (Z : WZ l s0 a0 K p s m c cX7_bears yX7_bears.cls 3 b R 1 21 meth [] (some (.int)) yX7_bears) (v0 : Option Nat)  : ∀ (n : Nat) (v1 : Int32) (v2 : Int32) (h : AH) (ls : Array Slot), LV ls 3 [(0, vR v0), (1, vI v1), (2, vI v2)] → f_X7_bears_l4 K v0 n v1 v2 h = some r → AW s0 K lam p l e R s m args below meth c (AQ s0 K lam below oI b r s) b h (F0 m 4 ls []) := by
  intro n
  induction n with
  | zero => intro v1 v2 h ls hl hf; exact fl_no (h := h) hf
  | succ n ih => intro v1 v2 h ls hl hf; exact w_X7_bears_b4 GA Z v0 v1 v2 (f_X7_bears_l4 K v0 n) ih hl hf
theorem np_X7_bears : npar yX7_bears.desc 0 := by unfold npar; decide +kernel
theorem hy_X7_bears : yX7_bears.cls ≠ "java/lang/invoke/MethodHandle" ∧ yX7_bears.cls ≠ "java/lang/invoke/VarHandle" := by decide +kernel
theorem w_X7_bears (GA : GA l s0 a0 K lam) (v0 : Option Nat) : AMet l s0 K lam yX7_bears (Cond.code yX7_bears cX7_bears (3 : Nat) (Option.some ClassFile.FieldType.int)) 1 21 [vR v0] oI (f_X7_bears K v0) := by
  refine AMet.of GA.1 (plainFor_of_name (by decide +kernel)) (Nat.le_of_ble_eq_true rfl) ?_
  intro b r hf p e s m args below meth c X hr hlk hnm hnd ht ls hl
  have Z : WZ l s0 a0 K p s m c cX7_bears yX7_bears.cls 3 b { frames := 1, cells := K 0 - aX b, slots := K 1 - aW b, locals := 21 } 1 21 meth [] (some (.int)) yX7_bears := ⟨⟨X, GA.2.1, GA.2.2.1, rfl, rfl, Nat.le_refl _, Nat.le_refl _⟩, tab_nil ht, hr, hlk, hnm, hnd⟩
  unfold f_X7_bears at hf
  clear hr hlk hnm hnd ht
  refine AW.lift (fun _ _ _ _ k => lv_iconst (pc := 0) (v := (0 : Int32)) X.2.2.1 X.2.2.2.1 dX7_bears_0 rfl k) ?_
  refine a_istore_n (pc := 1) X dX7_bears_1 rfl hl (by decide) (lv' := [(1, vI (0 : Int32)), (0, vR v0)]) rfl (fun ls hl => ?_)
  refine AW.lift (fun _ _ _ _ k => lv_iconst (pc := 2) (v := (0 : Int32)) X.2.2.1 X.2.2.2.1 dX7_bears_2 rfl k) ?_
  refine a_istore_n (pc := 3) X dX7_bears_3 rfl hl (by decide) (lv' := [(2, vI (0 : Int32)), (1, vI (0 : Int32)), (0, vR v0)]) rfl (fun ls hl => ?_)
  exact w_X7_bears_l4 GA Z v0  FU (0 : Int32) (0 : Int32) _ _ (hl.sub [2, 1, 0] rfl) hf
theorem w_X2_fix_j67 {r : Except Nat (Int32) × AH} (GA : GA l s0 a0 K lam) (Z : WZ l s0 a0 K p s m c cX2_fix yX2_fix.cls 5 b R 10 3088 meth [] (some (.int)) yX2_fix) (v0 : Option Nat) (v2 : Int32) (v3 : Option Nat) (t0 : Int32)  {h : AH} {ls : Array Slot} (hl : LV ls 5 [(0, vR v0), (2, vI v2), (3, vR v3)]) (hf : f_X2_fix_j67 K v0 v2 v3 t0 h = some r) : AW s0 K lam p l e R s m args below meth c (AQ s0 K lam below oI b r s) b h (F0 m 67 ls [.int t0]) := by
  unfold f_X2_fix_j67 at hf
  have X := Z.1.1
  refine AW.lift (fun _ _ _ _ k => lv_bipush (pc := 67) (v := (13 : Int32)) X.2.2.1 X.2.2.2.1 dX2_fix_67 rfl k) ?_
  refine a_iload_n (pc := 69) X dX2_fix_69 rfl hl 1 rfl ?_
  refine a_callb (pc := 70) (rs := []) (avs := [vI t0, vI (13 : Int32), vI v2]) Z.1 (w_X1_refuse GA t0 (13 : Int32) v2) (Or.inl rfl) q1723 q74 (by decide) (by decide) dX2_fix_70 hl.1 (Nat.le_of_ble_eq_true rfl) hf (ct_SN X (Or.inl rfl) q1723 q74 q1721 q1722 hy_X1_refuse np_X1_refuse rfl dX2_fix_70) (fun q h he hX => a_out (unc_of Z.2.1 rfl) Z.2.2.2.1 he hX) (fun _ h hf => ?kk70)
  refine AW.eq (g2 := F0 m 73 ls []) rfl ?_
  refine a_aload_n (pc := 73) X dX2_fix_73 rfl hl 2 rfl ?_
  refine a_getN (pc := 74) (φ := 400) pR_t X Z.1.2.1 (gnF X.1 X.2.1 q814) (fun _ q => q) (by decide) dX2_fix_74 hf (fun x74 hf => ?_)
  refine a_iload_n (pc := 77) X dX2_fix_77 rfl hl 1 rfl ?_
  refine AW.lift (fun _ _ _ _ k => lv_iconst (pc := 78) (v := (0 : Int32)) X.2.2.1 X.2.2.2.1 dX2_fix_78 rfl k) ?_
  refine a_iastore (pc := 79) X dX2_fix_79 hf (fun h hf => ?_)
  refine a_aload_n (pc := 80) X dX2_fix_80 rfl hl 0 rfl ?_
  refine AW.lift (fun _ _ _ _ k => lv_dup (pc := 81) X.2.2.1 X.2.2.2.1 dX2_fix_81 (cat_rf _) k) ?_
  refine a_get (pc := 82) (φ := 309) pI_t X Z.1.2.1 (gw X.1 X.2.1 q246) (fun _ q => q) (by decide) dX2_fix_82 hf (fun x82 hf => ?_)
  refine AW.lift (fun _ _ _ _ k => lv_iconst (pc := 85) (v := (1 : Int32)) X.2.2.1 X.2.2.2.1 dX2_fix_85 rfl k) ?_
  refine AW.lift (fun _ _ _ _ k => lv_iadd (pc := 86) X.2.2.1 X.2.2.2.1 dX2_fix_86 k) ?_
  refine a_put (pc := 87) (φ := 309) X Z.1.2.1 Z.1.2.2.1 (gw X.1 X.2.1 q246) (fun _ q => q) (by decide) rfl rfl dX2_fix_87 hf (fun h hf => ?_)
  refine a_aload_n (pc := 90) X dX2_fix_90 rfl hl 2 rfl ?_
  obtain ⟨a91, rfl, ⟨hk, hf⟩ | ⟨-, hf⟩⟩ := dv_some hf
  rotate_left
  · exact fl_none hf
  refine a_callb (pc := 91) (rs := []) (avs := [vR (some a91)]) Z.1 (w_X7_bears GA (some a91)) (Or.inl rfl) q1846 q91 (by decide) (by decide) dX2_fix_91 hl.1 (Nat.le_of_ble_eq_true rfl) hf (ct_V hk ⟨by decide, by decide⟩ X (Or.inl rfl) q1846 q1843 q1844 q1845 hy_X7_bears np_X7_bears rfl dX2_fix_91) (fun q h he hX => a_out (unc_of Z.2.1 rfl) Z.2.2.2.1 he hX) (fun x91 h hf => ?kk91)
  refine AW.eq (g2 := F0 m 94 ls [.int x91]) rfl ?_
  exact a_ireturn X Z.2.2.1 Z.2.2.2.1 dX2_fix_94 hf
theorem w_X2_fix_j50 {r : Except Nat (Int32) × AH} (GA : GA l s0 a0 K lam) (Z : WZ l s0 a0 K p s m c cX2_fix yX2_fix.cls 5 b R 10 3088 meth [] (some (.int)) yX2_fix) (v0 : Option Nat) (v2 : Int32) (v3 : Option Nat) (t0 : Int32) (t1 : Int32) (t2 : Int32)  {h : AH} {ls : Array Slot} (hl : LV ls 5 [(0, vR v0), (2, vI v2), (3, vR v3)]) (hf : f_X2_fix_j50 K v0 v2 v3 t0 t1 t2 h = some r) : AW s0 K lam p l e R s m args below meth c (AQ s0 K lam below oI b r s) b h (F0 m 50 ls [.int t0, .int t1, .int t2]) := by
  unfold f_X2_fix_j50 at hf
  have X := Z.1.1
  refine a_callb (pc := 50) (rs := []) (avs := [vI t2, vI t1, vI t0]) Z.1 (w_X1_refuse GA t2 t1 t0) (Or.inl rfl) q1723 q74 (by decide) (by decide) dX2_fix_50 hl.1 (Nat.le_of_ble_eq_true rfl) hf (ct_SN X (Or.inl rfl) q1723 q74 q1721 q1722 hy_X1_refuse np_X1_refuse rfl dX2_fix_50) (fun q h he hX => a_out (unc_of Z.2.1 rfl) Z.2.2.2.1 he hX) (fun _ h hf => ?kk50)
  refine AW.eq (g2 := F0 m 53 ls []) rfl ?_
  refine a_aload_n (pc := 53) X dX2_fix_53 rfl hl 2 rfl ?_
  refine a_getN (pc := 54) (φ := 400) pR_t X Z.1.2.1 (gnF X.1 X.2.1 q814) (fun _ q => q) (by decide) dX2_fix_54 hf (fun x54 hf => ?_)
  refine a_iload_n (pc := 57) X dX2_fix_57 rfl hl 1 rfl ?_
  refine a_iaload (pc := 58) X dX2_fix_58 hf (fun x58 hf => ?_)
  refine AW.lift2 (fun _ _ _ _ k1 k2 => lv_if_ne (pc := 59) (tgt := 66) X.2.2.1 X.2.2.2.1 dX2_fix_59 rfl k2 k1) (fun c => ?_) (fun c => ?_)
  · have hf := ite_t c hf
    refine AW.lift (fun _ _ _ _ k => lv_iconst (pc := 62) (v := (1 : Int32)) X.2.2.1 X.2.2.2.1 dX2_fix_62 rfl k) ?_
    refine AW.lift (fun _ _ _ _ k => lv_goto (pc := 63) (tgt := 67) X.2.2.1 X.2.2.2.1 dX2_fix_63 rfl k) ?_
    exact w_X2_fix_j67 GA Z v0 v2 v3 (1 : Int32)  (hl.sub [0, 1, 2] rfl) hf
  · have hf := ite_f c hf
    refine AW.lift (fun _ _ _ _ k => lv_iconst (pc := 66) (v := (0 : Int32)) X.2.2.1 X.2.2.2.1 dX2_fix_66 rfl k) ?_
    exact w_X2_fix_j67 GA Z v0 v2 v3 (0 : Int32)  (hl.sub [0, 1, 2] rfl) hf
theorem w_X2_fix_j34 {r : Except Nat (Int32) × AH} (GA : GA l s0 a0 K lam) (Z : WZ l s0 a0 K p s m c cX2_fix yX2_fix.cls 5 b R 10 3088 meth [] (some (.int)) yX2_fix) (v0 : Option Nat) (v2 : Int32) (v3 : Option Nat) (v4 : Option Nat) (t0 : Int32)  {h : AH} {ls : Array Slot} (hl : LV ls 5 [(0, vR v0), (2, vI v2), (3, vR v3), (4, vR v4)]) (hf : f_X2_fix_j34 K v0 v2 v3 v4 t0 h = some r) : AW s0 K lam p l e R s m args below meth c (AQ s0 K lam below oI b r s) b h (F0 m 34 ls [.int t0]) := by
  unfold f_X2_fix_j34 at hf
  have X := Z.1.1
  refine AW.lift (fun _ _ _ _ k => lv_bipush (pc := 34) (v := (10 : Int32)) X.2.2.1 X.2.2.2.1 dX2_fix_34 rfl k) ?_
  refine a_aload (pc := 36) X dX2_fix_36 hl 3 rfl ?_
  refine a_ifnonnull (pc := 38) (tgt := 45) X dX2_fix_38 rfl (fun c => ?_) (fun c => ?_)
  · have hf := ite_f c hf
    refine a_aload (pc := 45) X dX2_fix_45 hl 3 rfl ?_
    refine a_getN (pc := 47) (φ := 500) pI_t X Z.1.2.1 (gnF X.1 X.2.1 q911) (fun _ q => q) (by decide) dX2_fix_47 hf (fun x47 hf => ?_)
    exact w_X2_fix_j50 GA Z v0 v2 v3 x47 (10 : Int32) t0  (hl.sub [0, 1, 2] rfl) hf
  · have hf := ite_t c hf
    refine AW.lift (fun _ _ _ _ k => lv_iconst (pc := 41) (v := (-1 : Int32)) X.2.2.1 X.2.2.2.1 dX2_fix_41 rfl k) ?_
    refine AW.lift (fun _ _ _ _ k => lv_goto (pc := 42) (tgt := 50) X.2.2.1 X.2.2.2.1 dX2_fix_42 rfl k) ?_
    exact w_X2_fix_j50 GA Z v0 v2 v3 (-1 : Int32) (10 : Int32) t0  (hl.sub [0, 1, 2] rfl) hf
theorem np_X2_fix : npar yX2_fix.desc 2 := by unfold npar; decide +kernel
theorem hy_X2_fix : yX2_fix.cls ≠ "java/lang/invoke/MethodHandle" ∧ yX2_fix.cls ≠ "java/lang/invoke/VarHandle" := by decide +kernel
theorem w_X2_fix (GA : GA l s0 a0 K lam) (v0 : Option Nat) (v1 : Int32) (v2 : Int32) : AMet l s0 K lam yX2_fix (Cond.code yX2_fix cX2_fix (5 : Nat) (Option.some ClassFile.FieldType.int)) 10 3088 [vR v0, vI v1, vI v2] oI (f_X2_fix K v0 v1 v2) := by
  refine AMet.of GA.1 (plainFor_of_name (by decide +kernel)) (Nat.le_of_ble_eq_true rfl) ?_
  intro b r hf p e s m args below meth c X hr hlk hnm hnd ht ls hl
  have Z : WZ l s0 a0 K p s m c cX2_fix yX2_fix.cls 5 b { frames := 10, cells := K 0 - aX b, slots := K 1 - aW b, locals := 3088 } 10 3088 meth [] (some (.int)) yX2_fix := ⟨⟨X, GA.2.1, GA.2.2.1, rfl, rfl, Nat.le_refl _, Nat.le_refl _⟩, tab_nil ht, hr, hlk, hnm, hnd⟩
  unfold f_X2_fix at hf
  clear hr hlk hnm hnd ht
  refine a_aload_n (pc := 0) X dX2_fix_0 rfl hl 0 rfl ?_
  refine a_get (pc := 1) (φ := 300) pR_t X Z.1.2.1 (gw X.1 X.2.1 q228) (fun _ q => q) (by decide) dX2_fix_1 hf (fun x1 hf => ?_)
  refine a_iload_n (pc := 4) X dX2_fix_4 rfl hl 1 rfl ?_
  obtain ⟨a5, rfl, ⟨hk, hf⟩ | ⟨-, hf⟩⟩ := dv_some hf
  rotate_left
  · exact fl_none hf
  refine a_callb (pc := 5) (rs := []) (avs := [vR (some a5), vI v1]) Z.1 (w_J2_get GA (some a5) v1) (Or.inl rfl) q505 q78 (by decide) (by decide) dX2_fix_5 hl.1 (Nat.le_of_ble_eq_true rfl) hf (ct_V hk ⟨by decide, by decide⟩ X (Or.inl rfl) q505 q1828 q503 q3487 hy_J2_get np_J2_get rfl dX2_fix_5) (fun q h he hX => a_out (unc_of Z.2.1 rfl) Z.2.2.2.1 he hX) (fun x5 h hf => ?kk5)
  refine AW.eq (g2 := F0 m 8 ls [va_rf x5]) rfl ?_
  refine a_checkcast (pc := 8) X (gw X.1 X.2.1 q802) (cs_JumpHall_Mat GA) dX2_fix_8 hf (fun hf => ?_)
  refine a_astore_n (pc := 11) X dX2_fix_11 rfl hl (by decide) (lv' := [(3, vR x5), (0, vR v0), (1, vI v1), (2, vI v2)]) rfl (fun ls hl => ?_)
  refine a_aload_n (pc := 12) X dX2_fix_12 rfl hl 1 rfl ?_
  refine a_iload_n (pc := 13) X dX2_fix_13 rfl hl 2 rfl ?_
  refine a_ndy (pc := 14) (rs := [vR v0]) (avs := [vI v1]) Z.1 Z.2.2.2.2.2 (siG_203 GA) hfb_3 (lw_all_tbl q3550) ⟨by decide, by decide⟩ rfl rfl rfl (by decide) hl.1 (Nat.le_of_ble_eq_true rfl) (Nat.le_of_ble_eq_true rfl) rfl dX2_fix_14 hf (fun x14 h hf => ?_)
  refine AW.eq (g2 := F0 m 19 ls [va_rf (some x14), va_rf v0]) rfl ?_
  obtain ⟨a19, rfl, ⟨hk, hf⟩ | ⟨-, hf⟩⟩ := dv_some hf
  rotate_left
  · exact fl_none hf
  refine a_callb (pc := 19) (rs := []) (avs := [vR (some a19), vR (some x14)]) Z.1 (w_X2_lowest GA (some a19) (some x14)) (Or.inl rfl) q1838 q75 (by decide) (by decide) dX2_fix_19 hl.1 (Nat.le_of_ble_eq_true rfl) hf (ct_V hk ⟨by decide, by decide⟩ X (Or.inl rfl) q1838 q1835 q1836 q1837 hy_X2_lowest np_X2_lowest rfl dX2_fix_19) (fun q h he hX => a_out (unc_of Z.2.1 rfl) Z.2.2.2.1 he hX) (fun x19 h hf => ?kk19)
  refine AW.eq (g2 := F0 m 22 ls [va_rf x19]) rfl ?_
  refine a_astore (pc := 22) X dX2_fix_22 hl (by decide) (lv' := [(4, vR x19), (3, vR x5), (0, vR (some a19)), (1, vI v1), (2, vI v2)]) rfl (fun ls hl => ?_)
  refine a_aload (pc := 24) X dX2_fix_24 hl 0 rfl ?_
  refine a_ifnull (pc := 26) (tgt := 33) X dX2_fix_26 rfl (fun c => ?_) (fun c => ?_)
  · have hf := ite_t c hf
    refine AW.lift (fun _ _ _ _ k => lv_iconst (pc := 33) (v := (0 : Int32)) X.2.2.1 X.2.2.2.1 dX2_fix_33 rfl k) ?_
    exact w_X2_fix_j34 GA Z (some a19) v2 x5 x19 (0 : Int32)  (hl.sub [2, 4, 1, 0] rfl) hf
  · have hf := ite_f c hf
    refine AW.lift (fun _ _ _ _ k => lv_iconst (pc := 29) (v := (1 : Int32)) X.2.2.1 X.2.2.2.1 dX2_fix_29 rfl k) ?_
    refine AW.lift (fun _ _ _ _ k => lv_goto (pc := 30) (tgt := 34) X.2.2.1 X.2.2.2.1 dX2_fix_30 rfl k) ?_
    exact w_X2_fix_j34 GA Z (some a19) v2 x5 x19 (1 : Int32)  (hl.sub [2, 4, 1, 0] rfl) hf
theorem np_X1_lambda_fix_1 : npar yX1_lambda_fix_1.desc 3 := by unfold npar; decide +kernel
theorem hy_X1_lambda_fix_1 : yX1_lambda_fix_1.cls ≠ "java/lang/invoke/MethodHandle" ∧ yX1_lambda_fix_1.cls ≠ "java/lang/invoke/VarHandle" := by decide +kernel
theorem w_X1_lambda_fix_1 (GA : GA l s0 a0 K lam) (v0 : Int32) (v1 : Int32) (v2 : Option Nat) : AMet l s0 K lam yX1_lambda_fix_1 (Cond.code yX1_lambda_fix_1 cX1_lambda_fix_1 (3 : Nat) (Option.some ClassFile.FieldType.int)) 11 3112 [vI v0, vI v1, vR v2] oI (f_X1_lambda_fix_1 K v0 v1 v2) := by
  refine AMet.of GA.1 (plainFor_of_name (by decide +kernel)) (Nat.le_of_ble_eq_true rfl) ?_
  intro b r hf p e s m args below meth c X hr hlk hnm hnd ht ls hl
  have Z : WZ l s0 a0 K p s m c cX1_lambda_fix_1 yX1_lambda_fix_1.cls 3 b { frames := 11, cells := K 0 - aX b, slots := K 1 - aW b, locals := 3112 } 11 3112 meth [] (some (.int)) yX1_lambda_fix_1 := ⟨⟨X, GA.2.1, GA.2.2.1, rfl, rfl, Nat.le_refl _, Nat.le_refl _⟩, tab_nil ht, hr, hlk, hnm, hnd⟩
  unfold f_X1_lambda_fix_1 at hf
  clear hr hlk hnm hnd ht
  refine a_aload_n (pc := 0) X dX1_lambda_fix_1_0 rfl hl 2 rfl ?_
  refine a_iload_n (pc := 1) X dX1_lambda_fix_1_1 rfl hl 0 rfl ?_
  refine a_iload_n (pc := 2) X dX1_lambda_fix_1_2 rfl hl 1 rfl ?_
  obtain ⟨a3, rfl, ⟨hk, hf⟩ | ⟨-, hf⟩⟩ := dv_some hf
  rotate_left
  · exact fl_none hf
  refine a_callb (pc := 3) (rs := []) (avs := [vR (some a3), vI v0, vI v1]) Z.1 (w_X2_fix GA (some a3) v0 v1) (Or.inl rfl) q1827 q75 (by decide) (by decide) dX1_lambda_fix_1_3 hl.1 (Nat.le_of_ble_eq_true rfl) hf (ct_V hk ⟨by decide, by decide⟩ X (Or.inl rfl) q1827 q1824 q1825 q1826 hy_X2_fix np_X2_fix rfl dX1_lambda_fix_1_3) (fun q h he hX => a_out (unc_of Z.2.1 rfl) Z.2.2.2.1 he hX) (fun x3 h hf => ?kk3)
  refine AW.eq (g2 := F0 m 6 ls [.int x3]) rfl ?_
  exact a_ireturn X Z.2.2.1 Z.2.2.2.1 dX1_lambda_fix_1_6 hf
theorem cl_202 {Q : State → Prop} {h : AH} {cc : ByteArray} {own : String} {nL pc : Nat} {ls : Array Slot} {st : List Value} {F Lo idx cnt a : Nat} {v : Option Nat} {rs : List TV} (X : WX l s0 a0 K p s m c cc own nL b R F Lo) (GA : GA l s0 a0 K lam) (hk : aK h a = 202) (hlink : Cond.methodLink own idx ({ cls := "JumpHall$Deed", name := "in", desc := "(LJumpHall$Hall;)I" } : MethodName) ∈ lw_all) (hF : 13 ≤ F) (hLo : 3163 ≤ Lo) (hsz : ls.size = nL) (hW8 : (rs.map tcat).sum ≤ 8) (hst : st = va_rf v :: .ref a :: rs.map tvv) (hdg : decode cc pc = .ok (.invokeinterface idx cnt, 5)) : LC s0 K lam p l e R s m args below meth c Q b h pc ls (rs.map tvv) st (c_lam202 K (some a) v) := by
  intro r1 hf kk kx
  unfold c_lam202 at hf
  obtain ⟨a0, c0, e0, -, hp0, hf⟩ := gL_some hf
  cases e0
  obtain ⟨a1, c1, e1, -, hp1, hf⟩ := gL_some hf
  cases e1
  refine lam_core (caps := [vI c0, vI c1]) (arg := vR v) (f := f_X1_lambda_fix_1 K c0 c1 v) (x := ⟨"JumpHall", "fix", "(II)I"⟩) (fs := [16, 18]) (ig := .invokestatic 26) X (siG_202 GA) hfb_2 (lw_all_tbl q3550) ⟨by decide, by decide⟩ rfl hk (y := yX1_lambda_fix_1) (by decide +kernel) hy_X1_lambda_fix_1 (by decide +kernel) ⟨by decide, by decide⟩ hlink (gf X.1.1 X.1.2.1 q1758 rfl) (gf X.1.1 X.1.2.1 q1757 rfl) (by decide +kernel) (by unfold npar; decide +kernel) (w_X1_lambda_fix_1 GA c0 c1 v) (Or.inl rfl) q1823 q74 (fun _ _ => rfl) rfl (fun j v hj => by
    rcases j with _ | _ | j
    · exact (Option.some.inj hj : vI c0 = v) ▸ pI_t hp0
    · exact (Option.some.inj hj : vI c1 = v) ▸ pI_t hp1
    · exact absurd hj (by simp)) ⟨(fun j i hj => by
    rcases j with _ | _ | j
    · obtain rfl : 16 = i := Option.some.inj hj
      exact ⟨by decide +kernel, by decide +kernel⟩
    · obtain rfl : 18 = i := Option.some.inj hj
      exact ⟨by decide +kernel, by decide +kernel⟩
    · exact absurd hj (by simp)), by decide +kernel, by decide +kernel, by decide +kernel⟩ ⟨rfl, by cases v <;> rfl⟩ hF hLo hsz hW8 hst hdg (lam_stat GA.1 q1822 q74 hy_X1_lambda_fix_1 np_X1_lambda_fix_1 (Or.inl rfl) q1823 (by decide +kernel)) r1 hf kk kx
theorem w_X2_open_j24 {r : Except Nat (Int32) × AH} (GA : GA l s0 a0 K lam) (Z : WZ l s0 a0 K p s m c cX2_open yX2_open.cls 3 b R 9 426 meth [] (some (.int)) yX2_open) (v1 : Int32) (v2 : Option Nat) (t0 : Int32)  {h : AH} {ls : Array Slot} (hl : LV ls 3 [(1, vI v1), (2, vR v2)]) (hf : f_X2_open_j24 K v1 v2 t0 h = some r) : AW s0 K lam p l e R s m args below meth c (AQ s0 K lam below oI b r s) b h (F0 m 24 ls [.int t0]) := by
  unfold f_X2_open_j24 at hf
  have X := Z.1.1
  refine AW.lift (fun _ _ _ _ k => lv_bipush (pc := 24) (v := (14 : Int32)) X.2.2.1 X.2.2.2.1 dX2_open_24 rfl k) ?_
  refine a_iload_n (pc := 26) X dX2_open_26 rfl hl 0 rfl ?_
  refine a_callb (pc := 27) (rs := []) (avs := [vI t0, vI (14 : Int32), vI v1]) Z.1 (w_X1_refuse GA t0 (14 : Int32) v1) (Or.inl rfl) q1723 q74 (by decide) (by decide) dX2_open_27 hl.1 (Nat.le_of_ble_eq_true rfl) hf (ct_SN X (Or.inl rfl) q1723 q74 q1721 q1722 hy_X1_refuse np_X1_refuse rfl dX2_open_27) (fun q h he hX => a_out (unc_of Z.2.1 rfl) Z.2.2.2.1 he hX) (fun _ h hf => ?kk27)
  refine AW.eq (g2 := F0 m 30 ls []) rfl ?_
  refine a_aload_n (pc := 30) X dX2_open_30 rfl hl 1 rfl ?_
  refine AW.lift (fun _ _ _ _ k => lv_iconst (pc := 31) (v := (0 : Int32)) X.2.2.1 X.2.2.2.1 dX2_open_31 rfl k) ?_
  refine a_putN (pc := 32) (φ := 401) X Z.1.2.1 Z.1.2.2.1 (gnF X.1 X.2.1 q817) (fun _ q => q) (by decide) rfl rfl dX2_open_32 hf (fun h hf => ?_)
  refine a_aload_n (pc := 35) X dX2_open_35 rfl hl 1 rfl ?_
  obtain ⟨a36, rfl, ⟨hk, hf⟩ | ⟨-, hf⟩⟩ := dv_some hf
  rotate_left
  · exact fl_none hf
  refine a_callb (pc := 36) (rs := []) (avs := [vR (some a36)]) Z.1 (w_X7_bears GA (some a36)) (Or.inl rfl) q1846 q91 (by decide) (by decide) dX2_open_36 hl.1 (Nat.le_of_ble_eq_true rfl) hf (ct_V hk ⟨by decide, by decide⟩ X (Or.inl rfl) q1846 q1843 q1844 q1845 hy_X7_bears np_X7_bears rfl dX2_open_36) (fun q h he hX => a_out (unc_of Z.2.1 rfl) Z.2.2.2.1 he hX) (fun x36 h hf => ?kk36)
  refine AW.eq (g2 := F0 m 39 ls [.int x36]) rfl ?_
  exact a_ireturn X Z.2.2.1 Z.2.2.2.1 dX2_open_39 hf
theorem np_X2_open : npar yX2_open.desc 1 := by unfold npar; decide +kernel
theorem hy_X2_open : yX2_open.cls ≠ "java/lang/invoke/MethodHandle" ∧ yX2_open.cls ≠ "java/lang/invoke/VarHandle" := by decide +kernel
theorem w_X2_open (GA : GA l s0 a0 K lam) (v0 : Option Nat) (v1 : Int32) : AMet l s0 K lam yX2_open (Cond.code yX2_open cX2_open (3 : Nat) (Option.some ClassFile.FieldType.int)) 9 426 [vR v0, vI v1] oI (f_X2_open K v0 v1) := by
  refine AMet.of GA.1 (plainFor_of_name (by decide +kernel)) (Nat.le_of_ble_eq_true rfl) ?_
  intro b r hf p e s m args below meth c X hr hlk hnm hnd ht ls hl
  have Z : WZ l s0 a0 K p s m c cX2_open yX2_open.cls 3 b { frames := 9, cells := K 0 - aX b, slots := K 1 - aW b, locals := 426 } 9 426 meth [] (some (.int)) yX2_open := ⟨⟨X, GA.2.1, GA.2.2.1, rfl, rfl, Nat.le_refl _, Nat.le_refl _⟩, tab_nil ht, hr, hlk, hnm, hnd⟩
  unfold f_X2_open at hf
  clear hr hlk hnm hnd ht
  refine a_aload_n (pc := 0) X dX2_open_0 rfl hl 0 rfl ?_
  refine a_get (pc := 1) (φ := 300) pR_t X Z.1.2.1 (gw X.1 X.2.1 q228) (fun _ q => q) (by decide) dX2_open_1 hf (fun x1 hf => ?_)
  refine a_iload_n (pc := 4) X dX2_open_4 rfl hl 1 rfl ?_
  obtain ⟨a5, rfl, ⟨hk, hf⟩ | ⟨-, hf⟩⟩ := dv_some hf
  rotate_left
  · exact fl_none hf
  refine a_callb (pc := 5) (rs := []) (avs := [vR (some a5), vI v1]) Z.1 (w_J2_get GA (some a5) v1) (Or.inl rfl) q505 q78 (by decide) (by decide) dX2_open_5 hl.1 (Nat.le_of_ble_eq_true rfl) hf (ct_V hk ⟨by decide, by decide⟩ X (Or.inl rfl) q505 q1828 q503 q3487 hy_J2_get np_J2_get rfl dX2_open_5) (fun q h he hX => a_out (unc_of Z.2.1 rfl) Z.2.2.2.1 he hX) (fun x5 h hf => ?kk5)
  refine AW.eq (g2 := F0 m 8 ls [va_rf x5]) rfl ?_
  refine a_checkcast (pc := 8) X (gw X.1 X.2.1 q802) (cs_JumpHall_Mat GA) dX2_open_8 hf (fun hf => ?_)
  refine a_astore_n (pc := 11) X dX2_open_11 rfl hl (by decide) (lv' := [(2, vR x5), (0, vR v0), (1, vI v1)]) rfl (fun ls hl => ?_)
  refine a_aload_n (pc := 12) X dX2_open_12 rfl hl 0 rfl ?_
  refine a_getN (pc := 13) (φ := 401) pI_t X Z.1.2.1 (gnF X.1 X.2.1 q817) (fun _ q => q) (by decide) dX2_open_13 hf (fun x13 hf => ?_)
  refine AW.lift2 (fun _ _ _ _ k1 k2 => lv_if_ne (pc := 16) (tgt := 23) X.2.2.1 X.2.2.2.1 dX2_open_16 rfl k2 k1) (fun c => ?_) (fun c => ?_)
  · have hf := ite_t c hf
    refine AW.lift (fun _ _ _ _ k => lv_iconst (pc := 19) (v := (1 : Int32)) X.2.2.1 X.2.2.2.1 dX2_open_19 rfl k) ?_
    refine AW.lift (fun _ _ _ _ k => lv_goto (pc := 20) (tgt := 24) X.2.2.1 X.2.2.2.1 dX2_open_20 rfl k) ?_
    exact w_X2_open_j24 GA Z v1 x5 (1 : Int32)  (hl.sub [2, 0] rfl) hf
  · have hf := ite_f c hf
    refine AW.lift (fun _ _ _ _ k => lv_iconst (pc := 23) (v := (0 : Int32)) X.2.2.1 X.2.2.2.1 dX2_open_23 rfl k) ?_
    exact w_X2_open_j24 GA Z v1 x5 (0 : Int32)  (hl.sub [2, 0] rfl) hf
theorem np_X1_lambda_open_2 : npar yX1_lambda_open_2.desc 2 := by unfold npar; decide +kernel
theorem hy_X1_lambda_open_2 : yX1_lambda_open_2.cls ≠ "java/lang/invoke/MethodHandle" ∧ yX1_lambda_open_2.cls ≠ "java/lang/invoke/VarHandle" := by decide +kernel
theorem w_X1_lambda_open_2 (GA : GA l s0 a0 K lam) (v0 : Int32) (v1 : Option Nat) : AMet l s0 K lam yX1_lambda_open_2 (Cond.code yX1_lambda_open_2 cX1_lambda_open_2 (2 : Nat) (Option.some ClassFile.FieldType.int)) 10 448 [vI v0, vR v1] oI (f_X1_lambda_open_2 K v0 v1) := by
  refine AMet.of GA.1 (plainFor_of_name (by decide +kernel)) (Nat.le_of_ble_eq_true rfl) ?_
  intro b r hf p e s m args below meth c X hr hlk hnm hnd ht ls hl
  have Z : WZ l s0 a0 K p s m c cX1_lambda_open_2 yX1_lambda_open_2.cls 2 b { frames := 10, cells := K 0 - aX b, slots := K 1 - aW b, locals := 448 } 10 448 meth [] (some (.int)) yX1_lambda_open_2 := ⟨⟨X, GA.2.1, GA.2.2.1, rfl, rfl, Nat.le_refl _, Nat.le_refl _⟩, tab_nil ht, hr, hlk, hnm, hnd⟩
  unfold f_X1_lambda_open_2 at hf
  clear hr hlk hnm hnd ht
  refine a_aload_n (pc := 0) X dX1_lambda_open_2_0 rfl hl 1 rfl ?_
  refine a_iload_n (pc := 1) X dX1_lambda_open_2_1 rfl hl 0 rfl ?_
  obtain ⟨a2, rfl, ⟨hk, hf⟩ | ⟨-, hf⟩⟩ := dv_some hf
  rotate_left
  · exact fl_none hf
  refine a_callb (pc := 2) (rs := []) (avs := [vR (some a2), vI v0]) Z.1 (w_X2_open GA (some a2) v0) (Or.inl rfl) q1869 q75 (by decide) (by decide) dX1_lambda_open_2_2 hl.1 (Nat.le_of_ble_eq_true rfl) hf (ct_V hk ⟨by decide, by decide⟩ X (Or.inl rfl) q1869 q1866 q1867 q1868 hy_X2_open np_X2_open rfl dX1_lambda_open_2_2) (fun q h he hX => a_out (unc_of Z.2.1 rfl) Z.2.2.2.1 he hX) (fun x2 h hf => ?kk2)
  refine AW.eq (g2 := F0 m 5 ls [.int x2]) rfl ?_
  exact a_ireturn X Z.2.2.1 Z.2.2.2.1 dX1_lambda_open_2_5 hf
theorem cl_204 {Q : State → Prop} {h : AH} {cc : ByteArray} {own : String} {nL pc : Nat} {ls : Array Slot} {st : List Value} {F Lo idx cnt a : Nat} {v : Option Nat} {rs : List TV} (X : WX l s0 a0 K p s m c cc own nL b R F Lo) (GA : GA l s0 a0 K lam) (hk : aK h a = 204) (hlink : Cond.methodLink own idx ({ cls := "JumpHall$Deed", name := "in", desc := "(LJumpHall$Hall;)I" } : MethodName) ∈ lw_all) (hF : 12 ≤ F) (hLo : 498 ≤ Lo) (hsz : ls.size = nL) (hW8 : (rs.map tcat).sum ≤ 8) (hst : st = va_rf v :: .ref a :: rs.map tvv) (hdg : decode cc pc = .ok (.invokeinterface idx cnt, 5)) : LC s0 K lam p l e R s m args below meth c Q b h pc ls (rs.map tvv) st (c_lam204 K (some a) v) := by
  intro r1 hf kk kx
  unfold c_lam204 at hf
  obtain ⟨a0, c0, e0, -, hp0, hf⟩ := gL_some hf
  cases e0
  refine lam_core (caps := [vI c0]) (arg := vR v) (f := f_X1_lambda_open_2 K c0 v) (x := ⟨"JumpHall", "open", "(I)I"⟩) (fs := [15]) (ig := .invokestatic 23) X (siG_204 GA) hfb_4 (lw_all_tbl q3550) ⟨by decide, by decide⟩ rfl hk (y := yX1_lambda_open_2) (by decide +kernel) hy_X1_lambda_open_2 (by decide +kernel) ⟨by decide, by decide⟩ hlink (gf X.1.1 X.1.2.1 q1758 rfl) (gf X.1.1 X.1.2.1 q1757 rfl) (by decide +kernel) (by unfold npar; decide +kernel) (w_X1_lambda_open_2 GA c0 v) (Or.inl rfl) q1865 q74 (fun _ _ => rfl) rfl (fun j v hj => by
    rcases j with _ | j
    · exact (Option.some.inj hj : vI c0 = v) ▸ pI_t hp0
    · exact absurd hj (by simp)) ⟨(fun j i hj => by
    rcases j with _ | j
    · obtain rfl : 15 = i := Option.some.inj hj
      exact ⟨by decide +kernel, by decide +kernel⟩
    · exact absurd hj (by simp)), by decide +kernel, by decide +kernel, by decide +kernel⟩ ⟨rfl, by cases v <;> rfl⟩ hF hLo hsz hW8 hst hdg (lam_stat GA.1 q1864 q74 hy_X1_lambda_open_2 np_X1_lambda_open_2 (Or.inl rfl) q1865 (by decide +kernel)) r1 hf kk kx
theorem w_X2_addJumper_j17 {r : Except Nat (Int32) × AH} (GA : GA l s0 a0 K lam) (Z : WZ l s0 a0 K p s m c cX2_addJumper yX2_addJumper.cls 4 b R 9 426 meth [] (some (.int)) yX2_addJumper) (v0 : Option Nat) (v1 : Int32) (v2 : Int32) (v3 : Int32) (t0 : Int32)  {h : AH} {ls : Array Slot} (hl : LV ls 4 [(0, vR v0), (1, vI v1), (2, vI v2), (3, vI v3)]) (hf : f_X2_addJumper_j17 K v0 v1 v2 v3 t0 h = some r) : AW s0 K lam p l e R s m args below meth c (AQ s0 K lam below oI b r s) b h (F0 m 17 ls [.int t0]) := by
  unfold f_X2_addJumper_j17 at hf
  have X := Z.1.1
  refine AW.lift (fun _ _ _ _ k => lv_iconst (pc := 17) (v := (1 : Int32)) X.2.2.1 X.2.2.2.1 dX2_addJumper_17 rfl k) ?_
  refine AW.lift (fun _ _ _ _ k => lv_bipush (pc := 18) (v := (12 : Int32)) X.2.2.1 X.2.2.2.1 dX2_addJumper_18 rfl k) ?_
  refine a_callb (pc := 20) (rs := []) (avs := [vI t0, vI (1 : Int32), vI (12 : Int32)]) Z.1 (w_X1_refuse GA t0 (1 : Int32) (12 : Int32)) (Or.inl rfl) q1723 q74 (by decide) (by decide) dX2_addJumper_20 hl.1 (Nat.le_of_ble_eq_true rfl) hf (ct_SN X (Or.inl rfl) q1723 q74 q1721 q1722 hy_X1_refuse np_X1_refuse rfl dX2_addJumper_20) (fun q h he hX => a_out (unc_of Z.2.1 rfl) Z.2.2.2.1 he hX) (fun _ h hf => ?kk20)
  refine AW.eq (g2 := F0 m 23 ls []) rfl ?_
  refine a_aload_n (pc := 23) X dX2_addJumper_23 rfl hl 0 rfl ?_
  refine a_get (pc := 24) (φ := 301) pR_t X Z.1.2.1 (gw X.1 X.2.1 q230) (fun _ q => q) (by decide) dX2_addJumper_24 hf (fun x24 hf => ?_)
  refine a_new (pc := 27) (cK := 5) (n := 8) X Z.1.2.1 Z.1.2.2.1 Z.1.2.2.2.1 Z.1.2.2.2.2.1 ⟨by decide, by decide, by decide⟩ (gw X.1 X.2.1 q899) (gw X.1 X.2.1 q905) (gw X.1 X.2.1 q107) dX2_addJumper_27 hf (fun x27 h hf => ?_)
  refine AW.lift (fun _ _ _ _ k => lv_dup (pc := 30) X.2.2.1 X.2.2.2.1 dX2_addJumper_30 (cat_rf _) k) ?_
  refine a_aload_n (pc := 31) X dX2_addJumper_31 rfl hl 0 rfl ?_
  refine a_get (pc := 32) (φ := 301) pR_t X Z.1.2.1 (gw X.1 X.2.1 q230) (fun _ q => q) (by decide) dX2_addJumper_32 hf (fun x32 hf => ?_)
  obtain ⟨a35, rfl, ⟨hk, hf⟩ | ⟨-, hf⟩⟩ := dv_some hf
  rotate_left
  · exact fl_none hf
  refine a_callb (pc := 35) (rs := [vR (some x27), vR (some x27), vR x24]) (avs := [vR (some a35)]) Z.1 (w_J2_size GA (some a35)) (Or.inl rfl) q1012 q78 (by decide) (by decide) dX2_addJumper_35 hl.1 (Nat.le_of_ble_eq_true rfl) hf (ct_V hk ⟨by decide, by decide⟩ X (Or.inl rfl) q1012 q1720 q1011 q3486 hy_J2_size np_J2_size rfl dX2_addJumper_35) (fun q h he hX => a_out (unc_of Z.2.1 rfl) Z.2.2.2.1 he hX) (fun x35 h hf => ?kk35)
  refine AW.eq (g2 := F0 m 38 ls [.int x35, va_rf (some x27), va_rf (some x27), va_rf x24]) rfl ?_
  refine a_iload_n (pc := 38) X dX2_addJumper_38 rfl hl 1 rfl ?_
  refine a_iload_n (pc := 39) X dX2_addJumper_39 rfl hl 2 rfl ?_
  refine a_iload_n (pc := 40) X dX2_addJumper_40 rfl hl 3 rfl ?_
  refine a_callb (pc := 41) (rs := [vR (some x27), vR x24]) (avs := [vR (some x27), vI x35, vI v1, vI v2, vI v3]) Z.1 (w_X8_init GA (some x27) x35 v1 v2 v3) (Or.inl rfl) q908 q107 (by decide) (by decide) dX2_addJumper_41 hl.1 (Nat.le_of_ble_eq_true rfl) hf (ct_I X q908 q2006 q907 rfl hy_X8_init np_X8_init rfl dX2_addJumper_41) (fun q h he hX => a_out (unc_of Z.2.1 rfl) Z.2.2.2.1 he hX) (fun _ h hf => ?kk41)
  refine AW.eq (g2 := F0 m 44 ls [va_rf (some x27), va_rf x24]) rfl ?_
  obtain ⟨a44, rfl, ⟨hk, hf⟩ | ⟨-, hf⟩⟩ := dv_some hf
  rotate_left
  · exact fl_none hf
  refine a_callb (pc := 44) (rs := []) (avs := [vR (some a44), vR (some x27)]) Z.1 (w_J2_add GA (some a44) (some x27)) (Or.inl rfl) q834 q78 (by decide) (by decide) dX2_addJumper_44 hl.1 (Nat.le_of_ble_eq_true rfl) hf (ct_V hk ⟨by decide, by decide⟩ X (Or.inl rfl) q834 q831 q832 q833 hy_J2_add np_J2_add rfl dX2_addJumper_44) (fun q h he hX => a_out (unc_of Z.2.1 rfl) Z.2.2.2.1 he hX) (fun x44 h hf => ?kk44)
  refine AW.eq (g2 := F0 m 47 ls [.int x44]) rfl ?_
  refine AW.lift (fun _ _ _ _ k => lv_pop (pc := 47) X.2.2.1 X.2.2.2.1 dX2_addJumper_47 rfl k) ?_
  refine a_aload_n (pc := 48) X dX2_addJumper_48 rfl hl 0 rfl ?_
  refine a_get (pc := 49) (φ := 301) pR_t X Z.1.2.1 (gw X.1 X.2.1 q230) (fun _ q => q) (by decide) dX2_addJumper_49 hf (fun x49 hf => ?_)
  obtain ⟨a52, rfl, ⟨hk, hf⟩ | ⟨-, hf⟩⟩ := dv_some hf
  rotate_left
  · exact fl_none hf
  refine a_callb (pc := 52) (rs := []) (avs := [vR (some a52)]) Z.1 (w_J2_size GA (some a52)) (Or.inl rfl) q1012 q78 (by decide) (by decide) dX2_addJumper_52 hl.1 (Nat.le_of_ble_eq_true rfl) hf (ct_V hk ⟨by decide, by decide⟩ X (Or.inl rfl) q1012 q1720 q1011 q3486 hy_J2_size np_J2_size rfl dX2_addJumper_52) (fun q h he hX => a_out (unc_of Z.2.1 rfl) Z.2.2.2.1 he hX) (fun x52 h hf => ?kk52)
  refine AW.eq (g2 := F0 m 55 ls [.int x52]) rfl ?_
  refine AW.lift (fun _ _ _ _ k => lv_iconst (pc := 55) (v := (1 : Int32)) X.2.2.1 X.2.2.2.1 dX2_addJumper_55 rfl k) ?_
  refine AW.lift (fun _ _ _ _ k => lv_isub (pc := 56) X.2.2.1 X.2.2.2.1 dX2_addJumper_56 k) ?_
  exact a_ireturn X Z.2.2.1 Z.2.2.2.1 dX2_addJumper_57 hf
theorem np_X2_addJumper : npar yX2_addJumper.desc 3 := by unfold npar; decide +kernel
theorem hy_X2_addJumper : yX2_addJumper.cls ≠ "java/lang/invoke/MethodHandle" ∧ yX2_addJumper.cls ≠ "java/lang/invoke/VarHandle" := by decide +kernel
theorem w_X2_addJumper (GA : GA l s0 a0 K lam) (v0 : Option Nat) (v1 : Int32) (v2 : Int32) (v3 : Int32) : AMet l s0 K lam yX2_addJumper (Cond.code yX2_addJumper cX2_addJumper (4 : Nat) (Option.some ClassFile.FieldType.int)) 9 426 [vR v0, vI v1, vI v2, vI v3] oI (f_X2_addJumper K v0 v1 v2 v3) := by
  refine AMet.of GA.1 (plainFor_of_name (by decide +kernel)) (Nat.le_of_ble_eq_true rfl) ?_
  intro b r hf p e s m args below meth c X hr hlk hnm hnd ht ls hl
  have Z : WZ l s0 a0 K p s m c cX2_addJumper yX2_addJumper.cls 4 b { frames := 9, cells := K 0 - aX b, slots := K 1 - aW b, locals := 426 } 9 426 meth [] (some (.int)) yX2_addJumper := ⟨⟨X, GA.2.1, GA.2.2.1, rfl, rfl, Nat.le_refl _, Nat.le_refl _⟩, tab_nil ht, hr, hlk, hnm, hnd⟩
  unfold f_X2_addJumper at hf
  clear hr hlk hnm hnd ht
  refine a_aload_n (pc := 0) X dX2_addJumper_0 rfl hl 0 rfl ?_
  refine a_get (pc := 1) (φ := 301) pR_t X Z.1.2.1 (gw X.1 X.2.1 q230) (fun _ q => q) (by decide) dX2_addJumper_1 hf (fun x1 hf => ?_)
  obtain ⟨a4, rfl, ⟨hk, hf⟩ | ⟨-, hf⟩⟩ := dv_some hf
  rotate_left
  · exact fl_none hf
  refine a_callb (pc := 4) (rs := []) (avs := [vR (some a4)]) Z.1 (w_J2_size GA (some a4)) (Or.inl rfl) q1012 q78 (by decide) (by decide) dX2_addJumper_4 hl.1 (Nat.le_of_ble_eq_true rfl) hf (ct_V hk ⟨by decide, by decide⟩ X (Or.inl rfl) q1012 q1720 q1011 q3486 hy_J2_size np_J2_size rfl dX2_addJumper_4) (fun q h he hX => a_out (unc_of Z.2.1 rfl) Z.2.2.2.1 he hX) (fun x4 h hf => ?kk4)
  refine AW.eq (g2 := F0 m 7 ls [.int x4]) rfl ?_
  refine AW.lift (fun _ _ _ _ k => lv_bipush (pc := 7) (v := (12 : Int32)) X.2.2.1 X.2.2.2.1 dX2_addJumper_7 rfl k) ?_
  refine AW.lift2 (fun _ _ _ _ k1 k2 => lv_icmp_ne (pc := 9) (tgt := 16) X.2.2.1 X.2.2.2.1 dX2_addJumper_9 rfl k2 k1) (fun c => ?_) (fun c => ?_)
  · have hf := ite_t c hf
    refine AW.lift (fun _ _ _ _ k => lv_iconst (pc := 12) (v := (1 : Int32)) X.2.2.1 X.2.2.2.1 dX2_addJumper_12 rfl k) ?_
    refine AW.lift (fun _ _ _ _ k => lv_goto (pc := 13) (tgt := 17) X.2.2.1 X.2.2.2.1 dX2_addJumper_13 rfl k) ?_
    exact w_X2_addJumper_j17 GA Z v0 v1 v2 v3 (1 : Int32)  (hl.sub [0, 1, 2, 3] rfl) hf
  · have hf := ite_f c hf
    refine AW.lift (fun _ _ _ _ k => lv_iconst (pc := 16) (v := (0 : Int32)) X.2.2.1 X.2.2.2.1 dX2_addJumper_16 rfl k) ?_
    exact w_X2_addJumper_j17 GA Z v0 v1 v2 v3 (0 : Int32)  (hl.sub [0, 1, 2, 3] rfl) hf
end WK
