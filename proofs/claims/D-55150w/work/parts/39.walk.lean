section WK
variable {l : Launch} {s0 : State} {a0 : Array Value} {K : Nat → Nat} {lam : Nat → ClassId}
variable {p : Program} {e : Env} {R : Room} {s : State} {m : MethodId} {args : Array Value} {below : List Frame} {meth : Method} {c : Code} {b : AH}
theorem np_X4_openIt : npar yX4_openIt.desc 1 := by unfold npar; decide +kernel
theorem hy_X4_openIt : yX4_openIt.cls ≠ "java/lang/invoke/MethodHandle" ∧ yX4_openIt.cls ≠ "java/lang/invoke/VarHandle" := by decide +kernel
theorem w_X4_openIt (GA : GA l s0 a0 K lam) (v0 : Option Nat) (v1 : Int32) : AMet l s0 K lam yX4_openIt (Cond.code yX4_openIt cX4_openIt (2 : Nat) (Option.some ClassFile.FieldType.int)) 3 64 [vR v0, vI v1] oI (f_X4_openIt K v0 v1) := by
  refine AMet.of GA.1 (plainFor_of_name (by decide +kernel)) (Nat.le_of_ble_eq_true rfl) ?_
  intro b r hf p e s m args below meth c X hr hlk hnm hnd ht ls hl
  have Z : WZ l s0 a0 K p s m c cX4_openIt yX4_openIt.cls 2 b { frames := 3, cells := K 0 - aX b, slots := K 1 - aW b, locals := 64 } 3 64 meth [] (some (.int)) yX4_openIt := ⟨⟨X, GA.2.1, GA.2.2.1, rfl, rfl, Nat.le_refl _, Nat.le_refl _⟩, tab_nil ht, hr, hlk, hnm, hnd⟩
  unfold f_X4_openIt at hf
  clear hr hlk hnm hnd ht
  refine a_aload_n (pc := 0) X dX4_openIt_0 rfl hl 0 rfl ?_
  refine a_iload_n (pc := 1) X dX4_openIt_1 rfl hl 1 rfl ?_
  obtain ⟨a2, rfl, ⟨hk, hf⟩ | ⟨-, hf⟩⟩ := dv_some hf
  rotate_left
  · exact fl_none hf
  refine a_callb (pc := 2) (rs := []) (avs := [vR (some a2), vI v1]) Z.1 (w_X4_isMat GA (some a2) v1) (Or.inl rfl) q3139 q86 (by decide) (by decide) dX4_openIt_2 hl.1 (Nat.le_of_ble_eq_true rfl) hf (ct_V hk ⟨by decide, by decide⟩ X (Or.inl rfl) q3139 q3136 q3138 pv_33 hy_X4_isMat np_X4_isMat rfl dX4_openIt_2) (fun q h he hX => a_out (unc_of Z.2.1 rfl) Z.2.2.2.1 he hX) (fun x2 h hf => ?kk2)
  refine AW.eq (g2 := F0 m 5 ls [.int x2]) rfl ?_
  refine AW.lift2 (fun _ _ _ _ k1 k2 => lv_if_ne (pc := 5) (tgt := 14) X.2.2.1 X.2.2.2.1 dX4_openIt_5 rfl k2 k1) (fun c => ?_) (fun c => ?_)
  · have hf := ite_t c hf
    refine a_aload_n (pc := 8) X dX4_openIt_8 rfl hl 0 rfl ?_
    refine AW.lift (fun _ _ _ _ k => lv_iconst (pc := 9) (v := (1 : Int32)) X.2.2.1 X.2.2.2.1 dX4_openIt_9 rfl k) ?_
    rcases dv_someS hf with ⟨hk, hf⟩ | ⟨-, hf⟩
    rotate_left
    · exact fl_none hf
    refine a_callb (pc := 10) (rs := []) (avs := [vR (some a2), vI (1 : Int32)]) Z.1 (w_X4_throwing GA (some a2) (1 : Int32)) (Or.inl rfl) q3120 q86 (by decide) (by decide) dX4_openIt_10 hl.1 (Nat.le_of_ble_eq_true rfl) hf (ct_V hk ⟨by decide, by decide⟩ X (Or.inl rfl) q3120 q3117 q3119 pv_30 hy_X4_throwing np_X4_throwing rfl dX4_openIt_10) (fun q h he hX => a_out (unc_of Z.2.1 rfl) Z.2.2.2.1 he hX) (fun x10 h hf => ?kk10)
    refine AW.eq (g2 := F0 m 13 ls [.int x10]) rfl ?_
    exact a_ireturn X Z.2.2.1 Z.2.2.2.1 dX4_openIt_13 hf
  · have hf := ite_f c hf
    refine a_aload_n (pc := 14) X dX4_openIt_14 rfl hl 0 rfl ?_
    refine a_get (pc := 15) (φ := 100) pR_t X Z.1.2.1 (gw X.1 X.2.1 q3025) (fun _ q => q) (by decide) dX4_openIt_15 hf (fun x15 hf => ?_)
    refine a_iload_n (pc := 18) X dX4_openIt_18 rfl hl 1 rfl ?_
    refine a_callb (pc := 19) (rs := [vR x15]) (avs := [vI v1]) Z.1 (w_X4_of GA v1) (Or.inl rfl) q3123 q86 (by decide) (by decide) dX4_openIt_19 hl.1 (Nat.le_of_ble_eq_true rfl) hf (ct_S X (Or.inl rfl) q3123 q86 q3121 q3122 hy_X4_of np_X4_of rfl dX4_openIt_19) (fun q h he hX => a_out (unc_of Z.2.1 rfl) Z.2.2.2.1 he hX) (fun x19 h hf => ?kk19)
    refine AW.eq (g2 := F0 m 22 ls [.int x19, va_rf x15]) rfl ?_
    refine AW.lift (fun _ _ _ _ k => lv_bipush (pc := 22) (v := (8 : Int32)) X.2.2.1 X.2.2.2.1 dX4_openIt_22 rfl k) ?_
    refine AW.lift (fun _ _ _ _ k => lv_iadd (pc := 24) X.2.2.1 X.2.2.2.1 dX4_openIt_24 k) ?_
    refine a_iaload (pc := 25) X dX4_openIt_25 hf (fun x25 hf => ?_)
    refine AW.lift (fun _ _ _ _ k => lv_iconst (pc := 26) (v := (1 : Int32)) X.2.2.1 X.2.2.2.1 dX4_openIt_26 rfl k) ?_
    refine AW.lift2 (fun _ _ _ _ k1 k2 => lv_icmp_ne (pc := 27) (tgt := 39) X.2.2.1 X.2.2.2.1 dX4_openIt_27 rfl k2 k1) (fun c => ?_) (fun c => ?_)
    · have hf := ite_t c hf
      refine a_aload_n (pc := 30) X dX4_openIt_30 rfl hl 0 rfl ?_
      refine AW.lift (fun _ _ _ _ k => lv_iconst (pc := 31) (v := (2 : Int32)) X.2.2.1 X.2.2.2.1 dX4_openIt_31 rfl k) ?_
      refine AW.lift (fun _ _ _ _ k => lv_bipush (pc := 32) (v := (14 : Int32)) X.2.2.1 X.2.2.2.1 dX4_openIt_32 rfl k) ?_
      refine a_iload_n (pc := 34) X dX4_openIt_34 rfl hl 1 rfl ?_
      rcases dv_someS hf with ⟨hk, hf⟩ | ⟨-, hf⟩
      rotate_left
      · exact fl_none hf
      refine a_callb (pc := 35) (rs := []) (avs := [vR (some a2), vI (2 : Int32), vI (14 : Int32), vI v1]) Z.1 (w_X4_refuse GA (some a2) (2 : Int32) (14 : Int32) v1) (Or.inl rfl) q3116 q86 (by decide) (by decide) dX4_openIt_35 hl.1 (Nat.le_of_ble_eq_true rfl) hf (ct_V hk ⟨by decide, by decide⟩ X (Or.inl rfl) q3116 q3113 q3115 pv_29 hy_X4_refuse np_X4_refuse rfl dX4_openIt_35) (fun q h he hX => a_out (unc_of Z.2.1 rfl) Z.2.2.2.1 he hX) (fun x35 h hf => ?kk35)
      refine AW.eq (g2 := F0 m 38 ls [.int x35]) rfl ?_
      exact a_ireturn X Z.2.2.1 Z.2.2.2.1 dX4_openIt_38 hf
    · have hf := ite_f c hf
      refine a_aload_n (pc := 39) X dX4_openIt_39 rfl hl 0 rfl ?_
      refine a_get (pc := 40) (φ := 100) pR_t X Z.1.2.1 (gw X.1 X.2.1 q3025) (fun _ q => q) (by decide) dX4_openIt_40 hf (fun x40 hf => ?_)
      refine a_iload_n (pc := 43) X dX4_openIt_43 rfl hl 1 rfl ?_
      refine a_callb (pc := 44) (rs := [vR x40]) (avs := [vI v1]) Z.1 (w_X4_of GA v1) (Or.inl rfl) q3123 q86 (by decide) (by decide) dX4_openIt_44 hl.1 (Nat.le_of_ble_eq_true rfl) hf (ct_S X (Or.inl rfl) q3123 q86 q3121 q3122 hy_X4_of np_X4_of rfl dX4_openIt_44) (fun q h he hX => a_out (unc_of Z.2.1 rfl) Z.2.2.2.1 he hX) (fun x44 h hf => ?kk44)
      refine AW.eq (g2 := F0 m 47 ls [.int x44, va_rf x40]) rfl ?_
      refine AW.lift (fun _ _ _ _ k => lv_bipush (pc := 47) (v := (8 : Int32)) X.2.2.1 X.2.2.2.1 dX4_openIt_47 rfl k) ?_
      refine AW.lift (fun _ _ _ _ k => lv_iadd (pc := 49) X.2.2.1 X.2.2.2.1 dX4_openIt_49 k) ?_
      refine AW.lift (fun _ _ _ _ k => lv_iconst (pc := 50) (v := (1 : Int32)) X.2.2.1 X.2.2.2.1 dX4_openIt_50 rfl k) ?_
      refine a_iastore (pc := 51) X dX4_openIt_51 hf (fun h hf => ?_)
      refine a_aload_n (pc := 52) X dX4_openIt_52 rfl hl 0 rfl ?_
      refine a_iload_n (pc := 53) X dX4_openIt_53 rfl hl 1 rfl ?_
      rcases dv_someS hf with ⟨hk, hf⟩ | ⟨-, hf⟩
      rotate_left
      · exact fl_none hf
      refine a_callb (pc := 54) (rs := []) (avs := [vR (some a2), vI v1]) Z.1 (w_X4_bears GA (some a2) v1) (Or.inl rfl) q3158 q86 (by decide) (by decide) dX4_openIt_54 hl.1 (Nat.le_of_ble_eq_true rfl) hf (ct_V hk ⟨by decide, by decide⟩ X (Or.inl rfl) q3158 q3155 q3157 pv_36 hy_X4_bears np_X4_bears rfl dX4_openIt_54) (fun q h he hX => a_out (unc_of Z.2.1 rfl) Z.2.2.2.1 he hX) (fun x54 h hf => ?kk54)
      refine AW.eq (g2 := F0 m 57 ls [.int x54]) rfl ?_
      exact a_ireturn X Z.2.2.1 Z.2.2.2.1 dX4_openIt_57 hf
theorem np_X4_open : npar yX4_open.desc 1 := by unfold npar; decide +kernel
theorem hy_X4_open : yX4_open.cls ≠ "java/lang/invoke/MethodHandle" ∧ yX4_open.cls ≠ "java/lang/invoke/VarHandle" := by decide +kernel
theorem w_X4_open (GA : GA l s0 a0 K lam) (v0 : Option Nat) (v1 : Int32) : AMet l s0 K lam yX4_open (Cond.code yX4_open cX4_open (2 : Nat) (Option.some ClassFile.FieldType.int)) 4 85 [vR v0, vI v1] oI (f_X4_open K v0 v1) := by
  refine AMet.of GA.1 (plainFor_of_name (by decide +kernel)) (Nat.le_of_ble_eq_true rfl) ?_
  intro b r hf p e s m args below meth c X hr hlk hnm hnd ht ls hl
  have Z : WZ l s0 a0 K p s m c cX4_open yX4_open.cls 2 b { frames := 4, cells := K 0 - aX b, slots := K 1 - aW b, locals := 85 } 4 85 meth [] (some (.int)) yX4_open := ⟨⟨X, GA.2.1, GA.2.2.1, rfl, rfl, Nat.le_refl _, Nat.le_refl _⟩, tab_nil ht, hr, hlk, hnm, hnd⟩
  unfold f_X4_open at hf
  clear hr hlk hnm hnd ht
  refine a_aload_n (pc := 0) X dX4_open_0 rfl hl 0 rfl ?_
  obtain ⟨a1, rfl, ⟨hk, hf⟩ | ⟨-, hf⟩⟩ := dv_some hf
  rotate_left
  · exact fl_none hf
  refine a_callb (pc := 1) (rs := []) (avs := [vR (some a1)]) Z.1 (w_X4_layAside GA (some a1)) (Or.inl rfl) q3112 q86 (by decide) (by decide) dX4_open_1 hl.1 (Nat.le_of_ble_eq_true rfl) hf (ct_V hk ⟨by decide, by decide⟩ X (Or.inl rfl) q3112 q3109 q3111 pv_28 hy_X4_layAside np_X4_layAside rfl dX4_open_1) (fun q h he hX => a_out (unc_of Z.2.1 rfl) Z.2.2.2.1 he hX) (fun _ h hf => ?kk1)
  refine AW.eq (g2 := F0 m 4 ls []) rfl ?_
  refine a_aload_n (pc := 4) X dX4_open_4 rfl hl 0 rfl ?_
  refine a_aload_n (pc := 5) X dX4_open_5 rfl hl 0 rfl ?_
  refine a_iload_n (pc := 6) X dX4_open_6 rfl hl 1 rfl ?_
  rcases dv_someS hf with ⟨hk, hf⟩ | ⟨-, hf⟩
  rotate_left
  · exact fl_none hf
  refine a_callb (pc := 7) (rs := [vR (some a1)]) (avs := [vR (some a1), vI v1]) Z.1 (w_X4_openIt GA (some a1) v1) (Or.inl rfl) q3170 q86 (by decide) (by decide) dX4_open_7 hl.1 (Nat.le_of_ble_eq_true rfl) hf (ct_V hk ⟨by decide, by decide⟩ X (Or.inl rfl) q3170 q3167 q3169 pv_38 hy_X4_openIt np_X4_openIt rfl dX4_open_7) (fun q h he hX => a_out (unc_of Z.2.1 rfl) Z.2.2.2.1 he hX) (fun x7 h hf => ?kk7)
  refine AW.eq (g2 := F0 m 10 ls [.int x7, va_rf (some a1)]) rfl ?_
  rcases dv_someS hf with ⟨hk, hf⟩ | ⟨-, hf⟩
  rotate_left
  · exact fl_none hf
  refine a_callb (pc := 10) (rs := []) (avs := [vR (some a1), vI x7]) Z.1 (w_X4_changed GA (some a1) x7) (Or.inl rfl) q3127 q86 (by decide) (by decide) dX4_open_10 hl.1 (Nat.le_of_ble_eq_true rfl) hf (ct_V hk ⟨by decide, by decide⟩ X (Or.inl rfl) q3127 q3124 q3126 pv_31 hy_X4_changed np_X4_changed rfl dX4_open_10) (fun q h he hX => a_out (unc_of Z.2.1 rfl) Z.2.2.2.1 he hX) (fun x10 h hf => ?kk10)
  refine AW.eq (g2 := F0 m 13 ls [.int x10]) rfl ?_
  exact a_ireturn X Z.2.2.1 Z.2.2.2.1 dX4_open_13 hf
theorem np_J24_init_2 : npar yJ24_init_2.desc 0 := by unfold npar; decide +kernel
theorem hy_J24_init_2 : yJ24_init_2.cls ≠ "java/lang/invoke/MethodHandle" ∧ yJ24_init_2.cls ≠ "java/lang/invoke/VarHandle" := by decide +kernel
theorem w_J24_init_2 (GA : GA l s0 a0 K lam) (v0 : Option Nat) : AMet l s0 K lam yJ24_init_2 (Cond.code yJ24_init_2 cJ24_init_2 (1 : Nat) (Option.none : Option ClassFile.FieldType)) 7 380 [vR v0] oV (f_J24_init_2 K v0) := by
  refine AMet.of GA.1 (plainFor_of_name (by decide +kernel)) (Nat.le_of_ble_eq_true rfl) ?_
  intro b r hf p e s m args below meth c X hr hlk hnm hnd ht ls hl
  have Z : WZ l s0 a0 K p s m c cJ24_init_2 yJ24_init_2.cls 1 b { frames := 7, cells := K 0 - aX b, slots := K 1 - aW b, locals := 380 } 7 380 meth [] none yJ24_init_2 := ⟨⟨X, GA.2.1, GA.2.2.1, rfl, rfl, Nat.le_refl _, Nat.le_refl _⟩, tab_nil ht, hr, hlk, hnm, hnd⟩
  unfold f_J24_init_2 at hf
  clear hr hlk hnm hnd ht
  refine a_aload_n (pc := 0) X dJ24_init_2_0 rfl hl 0 rfl ?_
  obtain ⟨a1, rfl, hf⟩ := nz_some hf
  refine a_callb (pc := 1) (rs := []) (avs := [vR (some a1)]) Z.1 (w_J15_init GA (some a1)) (Or.inl rfl) q456 q97 (by decide) (by decide) dJ24_init_2_1 hl.1 (Nat.le_of_ble_eq_true rfl) hf (ct_I X q456 q1885 q455 rfl hy_J15_init np_J15_init rfl dJ24_init_2_1) (fun q h he hX => a_out (unc_of Z.2.1 rfl) Z.2.2.2.1 he hX) (fun _ h hf => ?kk1)
  refine AW.eq (g2 := F0 m 4 ls []) rfl ?_
  exact a_return X Z.2.2.1 Z.2.2.2.1 dJ24_init_2_4 hf
theorem np_X1_checkArgument : npar yX1_checkArgument.desc 1 := by unfold npar; decide +kernel
theorem hy_X1_checkArgument : yX1_checkArgument.cls ≠ "java/lang/invoke/MethodHandle" ∧ yX1_checkArgument.cls ≠ "java/lang/invoke/VarHandle" := by decide +kernel
theorem w_X1_checkArgument (GA : GA l s0 a0 K lam) (v0 : Int32) : AMet l s0 K lam yX1_checkArgument (Cond.code yX1_checkArgument cX1_checkArgument (1 : Nat) (Option.none : Option ClassFile.FieldType)) 8 400 [vI v0] oV (f_X1_checkArgument K v0) := by
  refine AMet.of GA.1 (plainFor_of_name (by decide +kernel)) (Nat.le_of_ble_eq_true rfl) ?_
  intro b r hf p e s m args below meth c X hr hlk hnm hnd ht ls hl
  have Z : WZ l s0 a0 K p s m c cX1_checkArgument yX1_checkArgument.cls 1 b { frames := 8, cells := K 0 - aX b, slots := K 1 - aW b, locals := 400 } 8 400 meth [] none yX1_checkArgument := ⟨⟨X, GA.2.1, GA.2.2.1, rfl, rfl, Nat.le_refl _, Nat.le_refl _⟩, tab_nil ht, hr, hlk, hnm, hnd⟩
  unfold f_X1_checkArgument at hf
  clear hr hlk hnm hnd ht
  refine a_iload_n (pc := 0) X dX1_checkArgument_0 rfl hl 0 rfl ?_
  refine AW.lift2 (fun _ _ _ _ k1 k2 => lv_if_ne (pc := 1) (tgt := 12) X.2.2.1 X.2.2.2.1 dX1_checkArgument_1 rfl k2 k1) (fun c => ?_) (fun c => ?_)
  · have hf := ite_t c hf
    refine a_new (pc := 4) (cK := 17) (n := 6) X Z.1.2.1 Z.1.2.2.1 Z.1.2.2.2.1 Z.1.2.2.2.2.1 ⟨by decide, by decide, by decide⟩ (gw X.1 X.2.1 q1881) (gw X.1 X.2.1 q734) (gw X.1 X.2.1 q106) dX1_checkArgument_4 hf (fun x4 h hf => ?_)
    refine AW.lift (fun _ _ _ _ k => lv_dup (pc := 7) X.2.2.1 X.2.2.2.1 dX1_checkArgument_7 (cat_rf _) k) ?_
    refine a_callb (pc := 8) (rs := [vR (some x4)]) (avs := [vR (some x4)]) Z.1 (w_J24_init_2 GA (some x4)) (Or.inl rfl) q1884 q106 (by decide) (by decide) dX1_checkArgument_8 hl.1 (Nat.le_of_ble_eq_true rfl) hf (ct_I X q1884 q1882 q1883 rfl hy_J24_init_2 np_J24_init_2 rfl dX1_checkArgument_8) (fun q h he hX => a_out (unc_of Z.2.1 rfl) Z.2.2.2.1 he hX) (fun _ h hf => ?kk8)
    refine AW.eq (g2 := F0 m 11 ls [va_rf (some x4)]) rfl ?_
    exact a_athrow X dX1_checkArgument_11 hf (fun q e he hX => a_out (unc_of Z.2.1 rfl) Z.2.2.2.1 he hX)
  · have hf := ite_f c hf
    exact a_return X Z.2.2.1 Z.2.2.2.1 dX1_checkArgument_12 hf
theorem w_X7_sum_b13 {r : Except Nat (Int32) × AH} (GA : GA l s0 a0 K lam) (Z : WZ l s0 a0 K p s m c cX7_sum yX7_sum.cls 6 b R 0 0 meth [] (some (.int)) yX7_sum) (v1 : Int32) (v2 : Option Nat) (v3 : Int32) (v4 : Int32)  (rc13 : Int32 → Int32 → AM (Int32)) (hrc13 : ∀ (v1 : Int32) (v4 : Int32) (h : AH) (ls : Array Slot), LV ls 6 [(1, vI v1), (2, vR v2), (3, vI v3), (4, vI v4)] → rc13 v1 v4 h = some r → AW s0 K lam p l e R s m args below meth c (AQ s0 K lam below oI b r s) b h (F0 m 13 ls [])) {h : AH} {ls : Array Slot} (hl : LV ls 6 [(1, vI v1), (2, vR v2), (3, vI v3), (4, vI v4)]) (hf : f_X7_sum_b13 K rc13 v1 v2 v3 v4 h = some r) : AW s0 K lam p l e R s m args below meth c (AQ s0 K lam below oI b r s) b h (F0 m 13 ls []) := by
  unfold f_X7_sum_b13 at hf
  have X := Z.1.1
  refine a_iload (pc := 13) X dX7_sum_13 hl 3 rfl ?_
  refine a_iload_n (pc := 15) X dX7_sum_15 rfl hl 2 rfl ?_
  refine AW.lift2 (fun _ _ _ _ k1 k2 => lv_icmp_ge (pc := 16) (tgt := 36) X.2.2.1 X.2.2.2.1 dX7_sum_16 rfl k1 k2) (fun c => ?_) (fun c => ?_)
  · have hf := ite_t c hf
    refine a_iload_n (pc := 36) X dX7_sum_36 rfl hl 0 rfl ?_
    exact a_ireturn X Z.2.2.1 Z.2.2.2.1 dX7_sum_37 hf
  · have hf := ite_f c hf
    refine a_aload_n (pc := 19) X dX7_sum_19 rfl hl 1 rfl ?_
    refine a_iload (pc := 20) X dX7_sum_20 hl 3 rfl ?_
    refine a_iaload (pc := 22) X dX7_sum_22 hf (fun x22 hf => ?_)
    refine a_istore (pc := 23) X dX7_sum_23 hl (by decide) (lv' := [(5, vI x22), (1, vI v1), (2, vR v2), (3, vI v3), (4, vI v4)]) rfl (fun ls hl => ?_)
    refine a_iload_n (pc := 25) X dX7_sum_25 rfl hl 1 rfl ?_
    refine a_iload (pc := 26) X dX7_sum_26 hl 0 rfl ?_
    refine AW.lift (fun _ _ _ _ k => lv_iadd (pc := 28) X.2.2.1 X.2.2.2.1 dX7_sum_28 k) ?_
    refine a_istore_n (pc := 29) X dX7_sum_29 rfl hl (by decide) (lv' := [(1, vI (v1 + x22)), (5, vI x22), (2, vR v2), (3, vI v3), (4, vI v4)]) rfl (fun ls hl => ?_)
    refine a_iinc (pc := 30) (v := (v4 + (1 : Int32))) X dX7_sum_30 hl (k := 4) rfl rfl (by decide) (lv' := [(4, vI (v4 + (1 : Int32))), (1, vI (v1 + x22)), (5, vI x22), (2, vR v2), (3, vI v3)]) rfl (fun ls hl => ?_)
    refine AW.lift (fun _ _ _ _ k => lv_goto (pc := 33) (tgt := 13) X.2.2.1 X.2.2.2.1 dX7_sum_33 rfl k) ?_
    exact hrc13 (v1 + x22) (v4 + (1 : Int32)) _ _ (hl.sub [1, 3, 4, 0] rfl) hf
theorem w_X7_sum_l13 {r : Except Nat (Int32) × AH} (GA : GA l s0 a0 K lam) (Z : WZ l s0 a0 K p s m c cX7_sum yX7_sum.cls 6 b R 0 0 meth [] (some (.int)) yX7_sum) (v2 : Option Nat) (v3 : Int32)  : ∀ (n : Nat) (v1 : Int32) (v4 : Int32) (h : AH) (ls : Array Slot), LV ls 6 [(1, vI v1), (2, vR v2), (3, vI v3), (4, vI v4)] → f_X7_sum_l13 K v2 v3 n v1 v4 h = some r → AW s0 K lam p l e R s m args below meth c (AQ s0 K lam below oI b r s) b h (F0 m 13 ls []) := by
  intro n
  induction n with
  | zero => intro v1 v4 h ls hl hf; exact fl_no (h := h) hf
  | succ n ih => intro v1 v4 h ls hl hf; exact w_X7_sum_b13 GA Z v1 v2 v3 v4 (f_X7_sum_l13 K v2 v3 n) ih hl hf
theorem np_X7_sum : npar yX7_sum.desc 0 := by unfold npar; decide +kernel
theorem hy_X7_sum : yX7_sum.cls ≠ "java/lang/invoke/MethodHandle" ∧ yX7_sum.cls ≠ "java/lang/invoke/VarHandle" := by decide +kernel
theorem w_X7_sum (GA : GA l s0 a0 K lam) (v0 : Option Nat) : AMet l s0 K lam yX7_sum (Cond.code yX7_sum cX7_sum (6 : Nat) (Option.some ClassFile.FieldType.int)) 0 0 [vR v0] oI (f_X7_sum K v0) := by
  refine AMet.of GA.1 (plainFor_of_name (by decide +kernel)) (Nat.le_of_ble_eq_true rfl) ?_
  intro b r hf p e s m args below meth c X hr hlk hnm hnd ht ls hl
  have Z : WZ l s0 a0 K p s m c cX7_sum yX7_sum.cls 6 b { frames := 0, cells := K 0 - aX b, slots := K 1 - aW b, locals := 0 } 0 0 meth [] (some (.int)) yX7_sum := ⟨⟨X, GA.2.1, GA.2.2.1, rfl, rfl, Nat.le_refl _, Nat.le_refl _⟩, tab_nil ht, hr, hlk, hnm, hnd⟩
  unfold f_X7_sum at hf
  clear hr hlk hnm hnd ht
  refine AW.lift (fun _ _ _ _ k => lv_iconst (pc := 0) (v := (0 : Int32)) X.2.2.1 X.2.2.2.1 dX7_sum_0 rfl k) ?_
  refine a_istore_n (pc := 1) X dX7_sum_1 rfl hl (by decide) (lv' := [(1, vI (0 : Int32)), (0, vR v0)]) rfl (fun ls hl => ?_)
  refine a_aload_n (pc := 2) X dX7_sum_2 rfl hl 1 rfl ?_
  refine a_get (pc := 3) (φ := 400) pR_t X Z.1.2.1 (gw X.1 X.2.1 q813) (fun _ q => q) (by decide) dX7_sum_3 hf (fun x3 hf => ?_)
  refine a_astore_n (pc := 6) X dX7_sum_6 rfl hl (by decide) (lv' := [(2, vR x3), (1, vI (0 : Int32)), (0, vR v0)]) rfl (fun ls hl => ?_)
  refine a_aload_n (pc := 7) X dX7_sum_7 rfl hl 0 rfl ?_
  refine a_arraylength (pc := 8) X dX7_sum_8 hf (fun x8 hf => ?_)
  refine a_istore_n (pc := 9) X dX7_sum_9 rfl hl (by decide) (lv' := [(3, vI x8), (2, vR x3), (1, vI (0 : Int32)), (0, vR v0)]) rfl (fun ls hl => ?_)
  refine AW.lift (fun _ _ _ _ k => lv_iconst (pc := 10) (v := (0 : Int32)) X.2.2.1 X.2.2.2.1 dX7_sum_10 rfl k) ?_
  refine a_istore (pc := 11) X dX7_sum_11 hl (by decide) (lv' := [(4, vI (0 : Int32)), (3, vI x8), (2, vR x3), (1, vI (0 : Int32)), (0, vR v0)]) rfl (fun ls hl => ?_)
  exact w_X7_sum_l13 GA Z x3 x8  FU (0 : Int32) (0 : Int32) _ _ (hl.sub [3, 2, 1, 0] rfl) hf
theorem np_X1_matOf : npar yX1_matOf.desc 2 := by unfold npar; decide +kernel
theorem hy_X1_matOf : yX1_matOf.cls ≠ "java/lang/invoke/MethodHandle" ∧ yX1_matOf.cls ≠ "java/lang/invoke/VarHandle" := by decide +kernel
theorem w_X1_matOf (GA : GA l s0 a0 K lam) (v0 : Option Nat) (v1 : Int32) (v2 : Int32) : AMet l s0 K lam yX1_matOf (Cond.code yX1_matOf cX1_matOf (4 : Nat) (Option.some ClassFile.FieldType.int)) 11 3109 [vR v0, vI v1, vI v2] oI (f_X1_matOf K v0 v1 v2) := by
  refine AMet.of GA.1 (plainFor_of_name (by decide +kernel)) (Nat.le_of_ble_eq_true rfl) ?_
  intro b r hf p e s m args below meth c X hr hlk hnm hnd ht ls hl
  have Z : WZ l s0 a0 K p s m c cX1_matOf yX1_matOf.cls 4 b { frames := 11, cells := K 0 - aX b, slots := K 1 - aW b, locals := 3109 } 11 3109 meth [] (some (.int)) yX1_matOf := ⟨⟨X, GA.2.1, GA.2.2.1, rfl, rfl, Nat.le_refl _, Nat.le_refl _⟩, tab_nil ht, hr, hlk, hnm, hnd⟩
  unfold f_X1_matOf at hf
  clear hr hlk hnm hnd ht
  refine a_aload_n (pc := 0) X dX1_matOf_0 rfl hl 0 rfl ?_
  refine a_iload_n (pc := 1) X dX1_matOf_1 rfl hl 1 rfl ?_
  obtain ⟨a2, rfl, ⟨hk, hf⟩ | ⟨-, hf⟩⟩ := dv_some hf
  rotate_left
  · exact fl_none hf
  refine a_callb (pc := 2) (rs := []) (avs := [vR (some a2), vI v1]) Z.1 (w_X1_matAt GA (some a2) v1) (Or.inl rfl) q1861 q74 (by decide) (by decide) dX1_matOf_2 hl.1 (Nat.le_of_ble_eq_true rfl) hf (ct_V hk ⟨by decide, by decide⟩ X (Or.inl rfl) q1861 q1858 q1860 pv_6 hy_X1_matAt np_X1_matAt rfl dX1_matOf_2) (fun q h he hX => a_out (unc_of Z.2.1 rfl) Z.2.2.2.1 he hX) (fun x2 h hf => ?kk2)
  refine AW.eq (g2 := F0 m 5 ls [va_rf x2]) rfl ?_
  refine a_astore_n (pc := 5) X dX1_matOf_5 rfl hl (by decide) (lv' := [(3, vR x2), (0, vR (some a2)), (1, vI v1), (2, vI v2)]) rfl (fun ls hl => ?_)
  refine a_iload_n (pc := 6) X dX1_matOf_6 rfl hl 3 rfl ?_
  refine AW.lift (fun _ _ _ _ k => lv_iconst (pc := 7) (v := (0 : Int32)) X.2.2.1 X.2.2.2.1 dX1_matOf_7 rfl k) ?_
  refine AW.lift (fun _ _ _ _ k => lv_bipush (pc := 8) (v := (7 : Int32)) X.2.2.1 X.2.2.2.1 dX1_matOf_8 rfl k) ?_
  refine a_callb (pc := 10) (rs := []) (avs := [vI v2, vI (0 : Int32), vI (7 : Int32)]) Z.1 (w_X1_isIn GA v2 (0 : Int32) (7 : Int32)) (Or.inl rfl) q1812 q74 (by decide) (by decide) dX1_matOf_10 hl.1 (Nat.le_of_ble_eq_true rfl) hf (ct_S X (Or.inl rfl) q1812 q74 q1813 q1811 hy_X1_isIn np_X1_isIn rfl dX1_matOf_10) (fun q h he hX => a_out (unc_of Z.2.1 rfl) Z.2.2.2.1 he hX) (fun x10 h hf => ?kk10)
  refine AW.eq (g2 := F0 m 13 ls [.int x10]) rfl ?_
  refine a_callb (pc := 13) (rs := []) (avs := [vI x10]) Z.1 (w_X1_checkArgument GA x10) (Or.inl rfl) q1880 q74 (by decide) (by decide) dX1_matOf_13 hl.1 (Nat.le_of_ble_eq_true rfl) hf (ct_S X (Or.inl rfl) q1880 q74 q1878 q1879 hy_X1_checkArgument np_X1_checkArgument rfl dX1_matOf_13) (fun q h he hX => a_out (unc_of Z.2.1 rfl) Z.2.2.2.1 he hX) (fun _ h hf => ?kk13)
  refine AW.eq (g2 := F0 m 16 ls []) rfl ?_
  refine a_iload_n (pc := 16) X dX1_matOf_16 rfl hl 3 rfl ?_
  by_cases c0 : v2 = (0 : Int32)
  · have hf := ite_t c0 hf
    refine AW.lift (fun _ _ _ _ k => lv_tableIn (pc := 17) (tgt := 60) (off := 43) X.2.2.1 X.2.2.2.1 dX1_matOf_17 (by rw [c0]; decide) (by rw [c0]; decide) (by rw [c0]; rfl) rfl k) ?_
    refine a_aload_n (pc := 60) X dX1_matOf_60 rfl hl 0 rfl ?_
    obtain ⟨a61, rfl, ⟨hk, hf⟩ | ⟨-, hf⟩⟩ := dv_some hf
    rotate_left
    · exact fl_none hf
    refine a_callb (pc := 61) (rs := []) (avs := [vR (some a61)]) Z.1 (w_X7_bears GA (some a61)) (Or.inl rfl) q1846 q91 (by decide) (by decide) dX1_matOf_61 hl.1 (Nat.le_of_ble_eq_true rfl) hf (ct_V hk ⟨by decide, by decide⟩ X (Or.inl rfl) q1846 q1886 q1844 q1845 hy_X7_bears np_X7_bears rfl dX1_matOf_61) (fun q h he hX => a_out (unc_of Z.2.1 rfl) Z.2.2.2.1 he hX) (fun x61 h hf => ?kk61)
    refine AW.eq (g2 := F0 m 64 ls [.int x61]) rfl ?_
    refine AW.lift (fun _ _ _ _ k => lv_goto (pc := 64) (tgt := 138) X.2.2.1 X.2.2.2.1 dX1_matOf_64 rfl k) ?_
    exact a_ireturn X Z.2.2.1 Z.2.2.2.1 dX1_matOf_138 hf
  have hf := ite_f c0 hf
  by_cases c1 : v2 = (1 : Int32)
  · have hf := ite_t c1 hf
    refine AW.lift (fun _ _ _ _ k => lv_tableIn (pc := 17) (tgt := 67) (off := 50) X.2.2.1 X.2.2.2.1 dX1_matOf_17 (by rw [c1]; decide) (by rw [c1]; decide) (by rw [c1]; rfl) rfl k) ?_
    refine a_aload_n (pc := 67) X dX1_matOf_67 rfl hl 0 rfl ?_
    obtain ⟨a68, rfl, ⟨hk, hf⟩ | ⟨-, hf⟩⟩ := dv_some hf
    rotate_left
    · exact fl_none hf
    refine a_callb (pc := 68) (rs := []) (avs := [vR (some a68)]) Z.1 (w_X7_broken GA (some a68)) (Or.inl rfl) q1890 q91 (by decide) (by decide) dX1_matOf_68 hl.1 (Nat.le_of_ble_eq_true rfl) hf (ct_V hk ⟨by decide, by decide⟩ X (Or.inl rfl) q1890 q1887 q1888 q1889 hy_X7_broken np_X7_broken rfl dX1_matOf_68) (fun q h he hX => a_out (unc_of Z.2.1 rfl) Z.2.2.2.1 he hX) (fun x68 h hf => ?kk68)
    refine AW.eq (g2 := F0 m 71 ls [.int x68]) rfl ?_
    refine AW.lift (fun _ _ _ _ k => lv_goto (pc := 71) (tgt := 138) X.2.2.1 X.2.2.2.1 dX1_matOf_71 rfl k) ?_
    exact a_ireturn X Z.2.2.1 Z.2.2.2.1 dX1_matOf_138 hf
  have hf := ite_f c1 hf
  by_cases c2 : v2 = (2 : Int32)
  · have hf := ite_t c2 hf
    refine AW.lift (fun _ _ _ _ k => lv_tableIn (pc := 17) (tgt := 74) (off := 57) X.2.2.1 X.2.2.2.1 dX1_matOf_17 (by rw [c2]; decide) (by rw [c2]; decide) (by rw [c2]; rfl) rfl k) ?_
    refine a_aload_n (pc := 74) X dX1_matOf_74 rfl hl 0 rfl ?_
    obtain ⟨a75, rfl, ⟨hk, hf⟩ | ⟨-, hf⟩⟩ := dv_some hf
    rotate_left
    · exact fl_none hf
    refine a_callb (pc := 75) (rs := []) (avs := [vR (some a75)]) Z.1 (w_X7_sum GA (some a75)) (Or.inl rfl) q1894 q91 (by decide) (by decide) dX1_matOf_75 hl.1 (Nat.le_of_ble_eq_true rfl) hf (ct_V hk ⟨by decide, by decide⟩ X (Or.inl rfl) q1894 q1891 q1892 q1893 hy_X7_sum np_X7_sum rfl dX1_matOf_75) (fun q h he hX => a_out (unc_of Z.2.1 rfl) Z.2.2.2.1 he hX) (fun x75 h hf => ?kk75)
    refine AW.eq (g2 := F0 m 78 ls [.int x75]) rfl ?_
    refine AW.lift (fun _ _ _ _ k => lv_goto (pc := 78) (tgt := 138) X.2.2.1 X.2.2.2.1 dX1_matOf_78 rfl k) ?_
    exact a_ireturn X Z.2.2.1 Z.2.2.2.1 dX1_matOf_138 hf
  have hf := ite_f c2 hf
  by_cases c3 : v2 = (3 : Int32)
  · have hf := ite_t c3 hf
    refine AW.lift (fun _ _ _ _ k => lv_tableIn (pc := 17) (tgt := 81) (off := 64) X.2.2.1 X.2.2.2.1 dX1_matOf_17 (by rw [c3]; decide) (by rw [c3]; decide) (by rw [c3]; rfl) rfl k) ?_
    refine a_aload_n (pc := 81) X dX1_matOf_81 rfl hl 0 rfl ?_
    refine a_getN (pc := 82) (φ := 401) pI_t X Z.1.2.1 (gnF X.1 X.2.1 q818) (fun _ q => q) (by decide) dX1_matOf_82 hf (fun x82 hf => ?_)
    refine AW.lift2 (fun _ _ _ _ k1 k2 => lv_if_eq (pc := 85) (tgt := 92) X.2.2.1 X.2.2.2.1 dX1_matOf_85 rfl k1 k2) (fun c => ?_) (fun c => ?_)
    · have hf := ite_t c hf
      refine AW.lift (fun _ _ _ _ k => lv_iconst (pc := 92) (v := (1 : Int32)) X.2.2.1 X.2.2.2.1 dX1_matOf_92 rfl k) ?_
      refine AW.lift (fun _ _ _ _ k => lv_goto (pc := 93) (tgt := 138) X.2.2.1 X.2.2.2.1 dX1_matOf_93 rfl k) ?_
      exact a_ireturn X Z.2.2.1 Z.2.2.2.1 dX1_matOf_138 hf
    · have hf := ite_f c hf
      refine AW.lift (fun _ _ _ _ k => lv_iconst (pc := 88) (v := (0 : Int32)) X.2.2.1 X.2.2.2.1 dX1_matOf_88 rfl k) ?_
      refine AW.lift (fun _ _ _ _ k => lv_goto (pc := 89) (tgt := 138) X.2.2.1 X.2.2.2.1 dX1_matOf_89 rfl k) ?_
      exact a_ireturn X Z.2.2.1 Z.2.2.2.1 dX1_matOf_138 hf
  have hf := ite_f c3 hf
  by_cases c4 : v2 = (4 : Int32)
  · have hf := ite_t c4 hf
    refine AW.lift (fun _ _ _ _ k => lv_tableIn (pc := 17) (tgt := 96) (off := 79) X.2.2.1 X.2.2.2.1 dX1_matOf_17 (by rw [c4]; decide) (by rw [c4]; decide) (by rw [c4]; rfl) rfl k) ?_
    refine a_aload_n (pc := 96) X dX1_matOf_96 rfl hl 1 rfl ?_
    refine a_get (pc := 97) (φ := 200) pR_t X Z.1.2.1 (gw X.1 X.2.1 q309) (fun _ q => q) (by decide) dX1_matOf_97 hf (fun x97 hf => ?_)
    refine a_iload_n (pc := 100) X dX1_matOf_100 rfl hl 2 rfl ?_
    refine a_ndy (pc := 101) (rs := [vR x97]) (avs := [vI v1]) Z.1 Z.2.2.2.2.2 (siG_205 GA) hfb_5 (lw_all_tbl q3550) ⟨by decide, by decide⟩ rfl rfl rfl (by decide) hl.1 (Nat.le_of_ble_eq_true rfl) (Nat.le_of_ble_eq_true rfl) rfl dX1_matOf_101 hf (fun x101 h hf => ?_)
    refine AW.eq (g2 := F0 m 106 ls [va_rf (some x101), va_rf x97]) rfl ?_
    obtain ⟨a106, rfl, ⟨hk, hf⟩ | ⟨-, hf⟩⟩ := dv_some hf
    rotate_left
    · exact fl_none hf
    refine a_callb (pc := 106) (rs := []) (avs := [vR (some a106), vR (some x101)]) Z.1 (w_X2_many GA (some a106) (some x101)) (Or.inl rfl) q1901 q75 (by decide) (by decide) dX1_matOf_106 hl.1 (Nat.le_of_ble_eq_true rfl) hf (ct_V hk ⟨by decide, by decide⟩ X (Or.inl rfl) q1901 q1898 q1899 q1900 hy_X2_many np_X2_many rfl dX1_matOf_106) (fun q h he hX => a_out (unc_of Z.2.1 rfl) Z.2.2.2.1 he hX) (fun x106 h hf => ?kk106)
    refine AW.eq (g2 := F0 m 109 ls [.int x106]) rfl ?_
    refine AW.lift (fun _ _ _ _ k => lv_goto (pc := 109) (tgt := 138) X.2.2.1 X.2.2.2.1 dX1_matOf_109 rfl k) ?_
    exact a_ireturn X Z.2.2.1 Z.2.2.2.1 dX1_matOf_138 hf
  have hf := ite_f c4 hf
  by_cases c5 : v2 = (5 : Int32)
  · have hf := ite_t c5 hf
    refine AW.lift (fun _ _ _ _ k => lv_tableIn (pc := 17) (tgt := 112) (off := 95) X.2.2.1 X.2.2.2.1 dX1_matOf_17 (by rw [c5]; decide) (by rw [c5]; decide) (by rw [c5]; rfl) rfl k) ?_
    refine a_aload_n (pc := 112) X dX1_matOf_112 rfl hl 1 rfl ?_
    refine a_get (pc := 113) (φ := 200) pR_t X Z.1.2.1 (gw X.1 X.2.1 q309) (fun _ q => q) (by decide) dX1_matOf_113 hf (fun x113 hf => ?_)
    refine a_iload_n (pc := 116) X dX1_matOf_116 rfl hl 2 rfl ?_
    obtain ⟨a117, rfl, ⟨hk, hf⟩ | ⟨-, hf⟩⟩ := dv_some hf
    rotate_left
    · exact fl_none hf
    refine a_callb (pc := 117) (rs := []) (avs := [vR (some a117), vI v1]) Z.1 (w_X2_weightOn GA (some a117) v1) (Or.inl rfl) q1905 q75 (by decide) (by decide) dX1_matOf_117 hl.1 (Nat.le_of_ble_eq_true rfl) hf (ct_V hk ⟨by decide, by decide⟩ X (Or.inl rfl) q1905 q1902 q1903 q1904 hy_X2_weightOn np_X2_weightOn rfl dX1_matOf_117) (fun q h he hX => a_out (unc_of Z.2.1 rfl) Z.2.2.2.1 he hX) (fun x117 h hf => ?kk117)
    refine AW.eq (g2 := F0 m 120 ls [.int x117]) rfl ?_
    refine AW.lift (fun _ _ _ _ k => lv_goto (pc := 120) (tgt := 138) X.2.2.1 X.2.2.2.1 dX1_matOf_120 rfl k) ?_
    exact a_ireturn X Z.2.2.1 Z.2.2.2.1 dX1_matOf_138 hf
  have hf := ite_f c5 hf
  by_cases c6 : v2 = (6 : Int32)
  · have hf := ite_t c6 hf
    refine AW.lift (fun _ _ _ _ k => lv_tableIn (pc := 17) (tgt := 123) (off := 106) X.2.2.1 X.2.2.2.1 dX1_matOf_17 (by rw [c6]; decide) (by rw [c6]; decide) (by rw [c6]; rfl) rfl k) ?_
    refine a_aload_n (pc := 123) X dX1_matOf_123 rfl hl 1 rfl ?_
    refine a_get (pc := 124) (φ := 200) pR_t X Z.1.2.1 (gw X.1 X.2.1 q309) (fun _ q => q) (by decide) dX1_matOf_124 hf (fun x124 hf => ?_)
    refine a_iload_n (pc := 127) X dX1_matOf_127 rfl hl 2 rfl ?_
    obtain ⟨a128, rfl, ⟨hk, hf⟩ | ⟨-, hf⟩⟩ := dv_some hf
    rotate_left
    · exact fl_none hf
    refine a_callb (pc := 128) (rs := []) (avs := [vR (some a128), vI v1]) Z.1 (w_X2_guardAt GA (some a128) v1) (Or.inl rfl) q1915 q75 (by decide) (by decide) dX1_matOf_128 hl.1 (Nat.le_of_ble_eq_true rfl) hf (ct_V hk ⟨by decide, by decide⟩ X (Or.inl rfl) q1915 q1912 q1913 q1914 hy_X2_guardAt np_X2_guardAt rfl dX1_matOf_128) (fun q h he hX => a_out (unc_of Z.2.1 rfl) Z.2.2.2.1 he hX) (fun x128 h hf => ?kk128)
    refine AW.eq (g2 := F0 m 131 ls [.int x128]) rfl ?_
    refine AW.lift (fun _ _ _ _ k => lv_goto (pc := 131) (tgt := 138) X.2.2.1 X.2.2.2.1 dX1_matOf_131 rfl k) ?_
    exact a_ireturn X Z.2.2.1 Z.2.2.2.1 dX1_matOf_138 hf
  have hf := ite_f c6 hf
  have n0 := lv_neT (a := 0) c0 rfl
  have n1 := lv_neT (a := 1) c1 rfl
  have n2 := lv_neT (a := 2) c2 rfl
  have n3 := lv_neT (a := 3) c3 rfl
  have n4 := lv_neT (a := 4) c4 rfl
  have n5 := lv_neT (a := 5) c5 rfl
  have n6 := lv_neT (a := 6) c6 rfl
  refine AW.lift (fun _ _ _ _ k => lv_tableOut (pc := 17) (tgt := 134) X.2.2.1 X.2.2.2.1 dX1_matOf_17 (by omega) rfl k) ?_
  refine a_aload_n (pc := 134) X dX1_matOf_134 rfl hl 0 rfl ?_
  refine a_getN (pc := 135) (φ := 402) pI_t X Z.1.2.1 (gnF X.1 X.2.1 q820) (fun _ q => q) (by decide) dX1_matOf_135 hf (fun x135 hf => ?_)
  exact a_ireturn X Z.2.2.1 Z.2.2.2.1 dX1_matOf_138 hf
theorem np_X0_matOf : npar yX0_matOf.desc 4 := by unfold npar; decide +kernel
theorem hy_X0_matOf : yX0_matOf.cls ≠ "java/lang/invoke/MethodHandle" ∧ yX0_matOf.cls ≠ "java/lang/invoke/VarHandle" := by decide +kernel
theorem w_X0_matOf (GA : GA l s0 a0 K lam) (v0 : Option Nat) (v1 : Int32) (v2 : Int32) (v3 : Option Nat) : AMet l s0 K lam yX0_matOf (Cond.codeWith yX0_matOf cX0_matOf (5 : Nat) (Option.some ClassFile.FieldType.int) [((0 : Nat), (10 : Nat), (13 : Nat), (19 : Nat)), ((0 : Nat), (10 : Nat), (17 : Nat), (28 : Nat))]) 12 3132 [vR v0, vI v1, vI v2, vR v3] oI (f_X0_matOf K v0 v1 v2 v3) := by
  refine AMet.ofW GA.1 (plainFor_of_name (by decide +kernel)) (Nat.le_of_ble_eq_true rfl) ?_
  intro b r hf p e s m args below meth c X hr hlk hnm hnd ht ls hl
  have Z : WZ l s0 a0 K p s m c cX0_matOf yX0_matOf.cls 5 b { frames := 12, cells := K 0 - aX b, slots := K 1 - aW b, locals := 3132 } 12 3132 meth [(0, 10, 13, 19), (0, 10, 17, 28)] (some (.int)) yX0_matOf := ⟨⟨X, GA.2.1, GA.2.2.1, rfl, rfl, Nat.le_refl _, Nat.le_refl _⟩, ht, hr, hlk, hnm, hnd⟩
  unfold f_X0_matOf at hf
  clear hr hlk hnm hnd ht
  refine a_aload_n (pc := 0) X dX0_matOf_0 rfl hl 3 rfl ?_
  refine AW.lift (fun _ _ _ _ k => lv_iconst (pc := 1) (v := (0 : Int32)) X.2.2.1 X.2.2.2.1 dX0_matOf_1 rfl k) ?_
  refine a_aload_n (pc := 2) X dX0_matOf_2 rfl hl 0 rfl ?_
  refine a_iload_n (pc := 3) X dX0_matOf_3 rfl hl 1 rfl ?_
  refine a_iload_n (pc := 4) X dX0_matOf_4 rfl hl 2 rfl ?_
  obtain ⟨a5, rfl, ⟨hk, hf⟩ | ⟨-, hf⟩⟩ := dv_tsome hf
  rotate_left
  · exact fl_tnone hf
  refine a_callt (pc := 5) (rs := [vI (0 : Int32), vR v3]) (avs := [vR (some a5), vI v1, vI v2]) Z.1 (w_X1_matOf GA (some a5) v1 v2) (Or.inl rfl) q1877 q74 (by decide) (by decide) dX0_matOf_5 hl.1 (Nat.le_of_ble_eq_true rfl) hf (ct_V hk ⟨by decide, by decide⟩ X (Or.inl rfl) q1877 q1874 q1875 q1876 hy_X1_matOf np_X1_matOf rfl dX0_matOf_5) (fun q h hf hX => ?hx5) (fun x5 h hf => ?kk5)
  case hx5 =>
    rcases ctc_some hf with ⟨hy, hf⟩ | ⟨hn0, hf⟩
    · refine a_catchH (st := 0) (en := 10) (hp := 13) (ct := 19) (pre := []) (suf := [(0, 10, 17, 28)]) X hX Z.2.1 rfl (fun z hz => nomatch hz) (by decide) (Or.inr ⟨by decide, _, gw X.1 X.2.1 q1786, (cs_X19 GA) _ hy⟩) (AW.eq (g2 := F0 m 13 ls [va_rf (some q)]) rfl ?_)
      refine a_astore (pc := 13) X dX0_matOf_13 hl (by decide) (lv' := [(4, vR (some q)), (0, vR (some a5)), (1, vI v1), (2, vI v2), (3, vR v3)]) rfl (fun ls hl => ?_)
      refine AW.lift (fun _ _ _ _ k => lv_iconst (pc := 15) (v := (1 : Int32)) X.2.2.1 X.2.2.2.1 dX0_matOf_15 rfl k) ?_
      exact a_ireturn X Z.2.2.1 Z.2.2.2.1 dX0_matOf_16 hf
    · skip
      rcases ctc_some hf with ⟨hy, hf⟩ | ⟨hn1, hf⟩
      · refine a_catchH (st := 0) (en := 10) (hp := 17) (ct := 28) (pre := [(0, 10, 13, 19)]) (suf := []) X hX Z.2.1 rfl (by intro z hz; simp only [List.mem_cons, List.not_mem_nil, or_false] at hz; rcases hz with rfl <;> first | exact Or.inl (by decide) | exact Or.inr ⟨by decide, _, gw X.1 X.2.1 q1786, (nc_12_13_14_16_17_18_20_21_java_lang_IndexOutOfBoundsException GA _ (by simpa using hn0)).2.2⟩) (by decide) (Or.inr ⟨by decide, _, gw X.1 X.2.1 q1873, (cs_X17 GA) _ hy⟩) (AW.eq (g2 := F0 m 17 ls [va_rf (some q)]) rfl ?_)
        refine a_astore (pc := 17) X dX0_matOf_17 hl (by decide) (lv' := [(4, vR (some q)), (0, vR (some a5)), (1, vI v1), (2, vI v2), (3, vR v3)]) rfl (fun ls hl => ?_)
        refine AW.lift (fun _ _ _ _ k => lv_iconst (pc := 19) (v := (2 : Int32)) X.2.2.1 X.2.2.2.1 dX0_matOf_19 rfl k) ?_
        exact a_ireturn X Z.2.2.1 Z.2.2.2.1 dX0_matOf_20 hf
      · skip
        exact a_outH X Z.2.1 (by intro z hz; simp only [List.mem_cons, List.not_mem_nil, or_false] at hz; rcases hz with rfl | rfl <;> first | exact Or.inl (by decide) | exact Or.inr ⟨by decide, _, gw X.1 X.2.1 q1786, (nc_12_13_14_16_17_18_20_21_java_lang_IndexOutOfBoundsException GA _ (by simpa using hn0)).2.2⟩ | exact Or.inr ⟨by decide, _, gw X.1 X.2.1 q1873, (nc_12_13_14_16_18_19_20_21_java_lang_IllegalArgumentException GA _ (by simpa using hn1)).2.2⟩) Z.2.2.2.1 (th_eq hf) hX
  refine AW.eq (g2 := F0 m 8 ls [.int x5, .int (0 : Int32), va_rf v3]) rfl ?_
  refine AW.lift (fun _ _ _ _ k => lv_i2l (pc := 8) X.2.2.1 X.2.2.2.1 dX0_matOf_8 rfl k) ?_
  refine a_lastore (pc := 9) X dX0_matOf_9 hf (fun h hf => ?_)
  refine AW.lift (fun _ _ _ _ k => lv_goto (pc := 10) (tgt := 21) X.2.2.1 X.2.2.2.1 dX0_matOf_10 rfl k) ?_
  refine AW.lift (fun _ _ _ _ k => lv_iconst (pc := 21) (v := (0 : Int32)) X.2.2.1 X.2.2.2.1 dX0_matOf_21 rfl k) ?_
  exact a_ireturn X Z.2.2.1 Z.2.2.2.1 dX0_matOf_22 hf
theorem w_X4_wears_b4 {r : Except Nat (Int32) × AH} (GA : GA l s0 a0 K lam) (Z : WZ l s0 a0 K p s m c cX4_wears yX4_wears.cls 4 b R 1 20 meth [] (some (.int)) yX4_wears) (v0 : Option Nat) (v1 : Int32) (v2 : Int32) (v3 : Int32)  (rc4 : Int32 → Int32 → AM (Int32)) (hrc4 : ∀ (v2 : Int32) (v3 : Int32) (h : AH) (ls : Array Slot), LV ls 4 [(0, vR v0), (1, vI v1), (2, vI v2), (3, vI v3)] → rc4 v2 v3 h = some r → AW s0 K lam p l e R s m args below meth c (AQ s0 K lam below oI b r s) b h (F0 m 4 ls [])) {h : AH} {ls : Array Slot} (hl : LV ls 4 [(0, vR v0), (1, vI v1), (2, vI v2), (3, vI v3)]) (hf : f_X4_wears_b4 K rc4 v0 v1 v2 v3 h = some r) : AW s0 K lam p l e R s m args below meth c (AQ s0 K lam below oI b r s) b h (F0 m 4 ls []) := by
  unfold f_X4_wears_b4 at hf
  have X := Z.1.1
  refine a_iload_n (pc := 4) X dX4_wears_4 rfl hl 3 rfl ?_
  refine AW.lift (fun _ _ _ _ k => lv_bipush (pc := 5) (v := (8 : Int32)) X.2.2.1 X.2.2.2.1 dX4_wears_5 rfl k) ?_
  refine AW.lift2 (fun _ _ _ _ k1 k2 => lv_icmp_ge (pc := 7) (tgt := 30) X.2.2.1 X.2.2.2.1 dX4_wears_7 rfl k1 k2) (fun c => ?_) (fun c => ?_)
  · have hf := ite_t c hf
    refine a_iload_n (pc := 30) X dX4_wears_30 rfl hl 2 rfl ?_
    exact a_ireturn X Z.2.2.1 Z.2.2.2.1 dX4_wears_31 hf
  · have hf := ite_f c hf
    refine a_iload_n (pc := 10) X dX4_wears_10 rfl hl 2 rfl ?_
    refine a_aload_n (pc := 11) X dX4_wears_11 rfl hl 0 rfl ?_
    refine a_get (pc := 12) (φ := 100) pR_t X Z.1.2.1 (gw X.1 X.2.1 q3025) (fun _ q => q) (by decide) dX4_wears_12 hf (fun x12 hf => ?_)
    refine a_iload_n (pc := 15) X dX4_wears_15 rfl hl 1 rfl ?_
    refine a_callb (pc := 16) (rs := [vR x12, vI v2]) (avs := [vI v1]) Z.1 (w_X4_of GA v1) (Or.inl rfl) q3123 q86 (by decide) (by decide) dX4_wears_16 hl.1 (Nat.le_of_ble_eq_true rfl) hf (ct_S X (Or.inl rfl) q3123 q86 q3121 q3122 hy_X4_of np_X4_of rfl dX4_wears_16) (fun q h he hX => a_out (unc_of Z.2.1 rfl) Z.2.2.2.1 he hX) (fun x16 h hf => ?kk16)
    refine AW.eq (g2 := F0 m 19 ls [.int x16, va_rf x12, .int v2]) rfl ?_
    refine a_iload_n (pc := 19) X dX4_wears_19 rfl hl 3 rfl ?_
    refine AW.lift (fun _ _ _ _ k => lv_iadd (pc := 20) X.2.2.1 X.2.2.2.1 dX4_wears_20 k) ?_
    refine a_iaload (pc := 21) X dX4_wears_21 hf (fun x21 hf => ?_)
    refine AW.lift (fun _ _ _ _ k => lv_iadd (pc := 22) X.2.2.1 X.2.2.2.1 dX4_wears_22 k) ?_
    refine a_istore_n (pc := 23) X dX4_wears_23 rfl hl (by decide) (lv' := [(2, vI (v2 + x21)), (0, vR v0), (1, vI v1), (3, vI v3)]) rfl (fun ls hl => ?_)
    refine a_iinc (pc := 24) (v := (v3 + (1 : Int32))) X dX4_wears_24 hl (k := 3) rfl rfl (by decide) (lv' := [(3, vI (v3 + (1 : Int32))), (2, vI (v2 + x21)), (0, vR v0), (1, vI v1)]) rfl (fun ls hl => ?_)
    refine AW.lift (fun _ _ _ _ k => lv_goto (pc := 27) (tgt := 4) X.2.2.1 X.2.2.2.1 dX4_wears_27 rfl k) ?_
    exact hrc4 (v2 + x21) (v3 + (1 : Int32)) _ _ (hl.sub [2, 3, 1, 0] rfl) hf
theorem w_X4_wears_l4 {r : Except Nat (Int32) × AH} (GA : GA l s0 a0 K lam) (Z : WZ l s0 a0 K p s m c cX4_wears yX4_wears.cls 4 b R 1 20 meth [] (some (.int)) yX4_wears) (v0 : Option Nat) (v1 : Int32)  : ∀ (n : Nat) (v2 : Int32) (v3 : Int32) (h : AH) (ls : Array Slot), LV ls 4 [(0, vR v0), (1, vI v1), (2, vI v2), (3, vI v3)] → f_X4_wears_l4 K v0 v1 n v2 v3 h = some r → AW s0 K lam p l e R s m args below meth c (AQ s0 K lam below oI b r s) b h (F0 m 4 ls []) := by
  intro n
  induction n with
  | zero => intro v2 v3 h ls hl hf; exact fl_no (h := h) hf
  | succ n ih => intro v2 v3 h ls hl hf; exact w_X4_wears_b4 GA Z v0 v1 v2 v3 (f_X4_wears_l4 K v0 v1 n) ih hl hf
theorem np_X4_wears : npar yX4_wears.desc 1 := by unfold npar; decide +kernel
theorem hy_X4_wears : yX4_wears.cls ≠ "java/lang/invoke/MethodHandle" ∧ yX4_wears.cls ≠ "java/lang/invoke/VarHandle" := by decide +kernel
theorem w_X4_wears (GA : GA l s0 a0 K lam) (v0 : Option Nat) (v1 : Int32) : AMet l s0 K lam yX4_wears (Cond.code yX4_wears cX4_wears (4 : Nat) (Option.some ClassFile.FieldType.int)) 1 20 [vR v0, vI v1] oI (f_X4_wears K v0 v1) := by
  refine AMet.of GA.1 (plainFor_of_name (by decide +kernel)) (Nat.le_of_ble_eq_true rfl) ?_
  intro b r hf p e s m args below meth c X hr hlk hnm hnd ht ls hl
  have Z : WZ l s0 a0 K p s m c cX4_wears yX4_wears.cls 4 b { frames := 1, cells := K 0 - aX b, slots := K 1 - aW b, locals := 20 } 1 20 meth [] (some (.int)) yX4_wears := ⟨⟨X, GA.2.1, GA.2.2.1, rfl, rfl, Nat.le_refl _, Nat.le_refl _⟩, tab_nil ht, hr, hlk, hnm, hnd⟩
  unfold f_X4_wears at hf
  clear hr hlk hnm hnd ht
  refine AW.lift (fun _ _ _ _ k => lv_iconst (pc := 0) (v := (0 : Int32)) X.2.2.1 X.2.2.2.1 dX4_wears_0 rfl k) ?_
  refine a_istore_n (pc := 1) X dX4_wears_1 rfl hl (by decide) (lv' := [(2, vI (0 : Int32)), (0, vR v0), (1, vI v1)]) rfl (fun ls hl => ?_)
  refine AW.lift (fun _ _ _ _ k => lv_iconst (pc := 2) (v := (0 : Int32)) X.2.2.1 X.2.2.2.1 dX4_wears_2 rfl k) ?_
  refine a_istore_n (pc := 3) X dX4_wears_3 rfl hl (by decide) (lv' := [(3, vI (0 : Int32)), (2, vI (0 : Int32)), (0, vR v0), (1, vI v1)]) rfl (fun ls hl => ?_)
  exact w_X4_wears_l4 GA Z v0 v1  FU (0 : Int32) (0 : Int32) _ _ (hl.sub [2, 3, 1, 0] rfl) hf
theorem w_X4_guardAt_b2 {r : Except Nat (Int32) × AH} (GA : GA l s0 a0 K lam) (Z : WZ l s0 a0 K p s m c cX4_guardAt yX4_guardAt.cls 3 b R 0 0 meth [] (some (.int)) yX4_guardAt) (v0 : Option Nat) (v1 : Int32) (v2 : Int32)  (rc2 : Int32 → AM (Int32)) (hrc2 : ∀ (v2 : Int32) (h : AH) (ls : Array Slot), LV ls 3 [(0, vR v0), (1, vI v1), (2, vI v2)] → rc2 v2 h = some r → AW s0 K lam p l e R s m args below meth c (AQ s0 K lam below oI b r s) b h (F0 m 2 ls [])) {h : AH} {ls : Array Slot} (hl : LV ls 3 [(0, vR v0), (1, vI v1), (2, vI v2)]) (hf : f_X4_guardAt_b2 K rc2 v0 v1 v2 h = some r) : AW s0 K lam p l e R s m args below meth c (AQ s0 K lam below oI b r s) b h (F0 m 2 ls []) := by
  unfold f_X4_guardAt_b2 at hf
  have X := Z.1.1
  refine a_iload_n (pc := 2) X dX4_guardAt_2 rfl hl 2 rfl ?_
  refine a_aload_n (pc := 3) X dX4_guardAt_3 rfl hl 0 rfl ?_
  refine a_get (pc := 4) (φ := 100) pR_t X Z.1.2.1 (gw X.1 X.2.1 q3025) (fun _ q => q) (by decide) dX4_guardAt_4 hf (fun x4 hf => ?_)
  refine AW.lift (fun _ _ _ _ k => lv_iconst (pc := 7) (v := (3 : Int32)) X.2.2.1 X.2.2.2.1 dX4_guardAt_7 rfl k) ?_
  refine a_iaload (pc := 8) X dX4_guardAt_8 hf (fun x8 hf => ?_)
  refine AW.lift2 (fun _ _ _ _ k1 k2 => lv_icmp_ge (pc := 9) (tgt := 34) X.2.2.1 X.2.2.2.1 dX4_guardAt_9 rfl k1 k2) (fun c => ?_) (fun c => ?_)
  · have hf := ite_t c hf
    refine AW.lift (fun _ _ _ _ k => lv_iconst (pc := 34) (v := (-1 : Int32)) X.2.2.1 X.2.2.2.1 dX4_guardAt_34 rfl k) ?_
    exact a_ireturn X Z.2.2.1 Z.2.2.2.1 dX4_guardAt_35 hf
  · have hf := ite_f c hf
    refine a_aload_n (pc := 12) X dX4_guardAt_12 rfl hl 0 rfl ?_
    refine a_get (pc := 13) (φ := 100) pR_t X Z.1.2.1 (gw X.1 X.2.1 q3025) (fun _ q => q) (by decide) dX4_guardAt_13 hf (fun x13 hf => ?_)
    refine AW.lift (fun _ _ _ _ k => lv_sipush (pc := 16) (v := (182 : Int32)) X.2.2.1 X.2.2.2.1 dX4_guardAt_16 rfl k) ?_
    refine a_iload_n (pc := 19) X dX4_guardAt_19 rfl hl 2 rfl ?_
    refine AW.lift (fun _ _ _ _ k => lv_iadd (pc := 20) X.2.2.1 X.2.2.2.1 dX4_guardAt_20 k) ?_
    refine a_iaload (pc := 21) X dX4_guardAt_21 hf (fun x21 hf => ?_)
    refine a_iload_n (pc := 22) X dX4_guardAt_22 rfl hl 1 rfl ?_
    refine AW.lift2 (fun _ _ _ _ k1 k2 => lv_icmp_ne (pc := 23) (tgt := 28) X.2.2.1 X.2.2.2.1 dX4_guardAt_23 rfl k2 k1) (fun c => ?_) (fun c => ?_)
    · have hf := ite_t c hf
      refine a_iload_n (pc := 26) X dX4_guardAt_26 rfl hl 2 rfl ?_
      exact a_ireturn X Z.2.2.1 Z.2.2.2.1 dX4_guardAt_27 hf
    · have hf := ite_f c hf
      refine a_iinc (pc := 28) (v := (v2 + (1 : Int32))) X dX4_guardAt_28 hl (k := 2) rfl rfl (by decide) (lv' := [(2, vI (v2 + (1 : Int32))), (0, vR v0), (1, vI v1)]) rfl (fun ls hl => ?_)
      refine AW.lift (fun _ _ _ _ k => lv_goto (pc := 31) (tgt := 2) X.2.2.1 X.2.2.2.1 dX4_guardAt_31 rfl k) ?_
      exact hrc2 (v2 + (1 : Int32)) _ _ (hl.sub [1, 2, 0] rfl) hf
theorem w_X4_guardAt_l2 {r : Except Nat (Int32) × AH} (GA : GA l s0 a0 K lam) (Z : WZ l s0 a0 K p s m c cX4_guardAt yX4_guardAt.cls 3 b R 0 0 meth [] (some (.int)) yX4_guardAt) (v0 : Option Nat) (v1 : Int32)  : ∀ (n : Nat) (v2 : Int32) (h : AH) (ls : Array Slot), LV ls 3 [(0, vR v0), (1, vI v1), (2, vI v2)] → f_X4_guardAt_l2 K v0 v1 n v2 h = some r → AW s0 K lam p l e R s m args below meth c (AQ s0 K lam below oI b r s) b h (F0 m 2 ls []) := by
  intro n
  induction n with
  | zero => intro v2 h ls hl hf; exact fl_no (h := h) hf
  | succ n ih => intro v2 h ls hl hf; exact w_X4_guardAt_b2 GA Z v0 v1 v2 (f_X4_guardAt_l2 K v0 v1 n) ih hl hf
theorem np_X4_guardAt : npar yX4_guardAt.desc 1 := by unfold npar; decide +kernel
theorem hy_X4_guardAt : yX4_guardAt.cls ≠ "java/lang/invoke/MethodHandle" ∧ yX4_guardAt.cls ≠ "java/lang/invoke/VarHandle" := by decide +kernel
theorem w_X4_guardAt (GA : GA l s0 a0 K lam) (v0 : Option Nat) (v1 : Int32) : AMet l s0 K lam yX4_guardAt (Cond.code yX4_guardAt cX4_guardAt (3 : Nat) (Option.some ClassFile.FieldType.int)) 0 0 [vR v0, vI v1] oI (f_X4_guardAt K v0 v1) := by
  refine AMet.of GA.1 (plainFor_of_name (by decide +kernel)) (Nat.le_of_ble_eq_true rfl) ?_
  intro b r hf p e s m args below meth c X hr hlk hnm hnd ht ls hl
  have Z : WZ l s0 a0 K p s m c cX4_guardAt yX4_guardAt.cls 3 b { frames := 0, cells := K 0 - aX b, slots := K 1 - aW b, locals := 0 } 0 0 meth [] (some (.int)) yX4_guardAt := ⟨⟨X, GA.2.1, GA.2.2.1, rfl, rfl, Nat.le_refl _, Nat.le_refl _⟩, tab_nil ht, hr, hlk, hnm, hnd⟩
  unfold f_X4_guardAt at hf
  clear hr hlk hnm hnd ht
  refine AW.lift (fun _ _ _ _ k => lv_iconst (pc := 0) (v := (0 : Int32)) X.2.2.1 X.2.2.2.1 dX4_guardAt_0 rfl k) ?_
  refine a_istore_n (pc := 1) X dX4_guardAt_1 rfl hl (by decide) (lv' := [(2, vI (0 : Int32)), (0, vR v0), (1, vI v1)]) rfl (fun ls hl => ?_)
  exact w_X4_guardAt_l2 GA Z v0 v1  FU (0 : Int32) _ _ (hl.sub [1, 2, 0] rfl) hf
theorem w_X4_on_j51 {r : Except Nat (Int32) × AH} (GA : GA l s0 a0 K lam) (Z : WZ l s0 a0 K p s m c cX4_on yX4_on.cls 5 b R 2 42 meth [] (some (.int)) yX4_on) (v0 : Option Nat) (v1 : Int32) (v2 : Int32) (v4 : Int32) (t0 : Int32) (t1 : Int32) (rc5 : Int32 → Int32 → AM (Int32)) (hrc5 : ∀ (v3 : Int32) (v4 : Int32) (h : AH) (ls : Array Slot), LV ls 5 [(0, vR v0), (1, vI v1), (2, vI v2), (3, vI v3), (4, vI v4)] → rc5 v3 v4 h = some r → AW s0 K lam p l e R s m args below meth c (AQ s0 K lam below oI b r s) b h (F0 m 5 ls [])) {h : AH} {ls : Array Slot} (hl : LV ls 5 [(0, vR v0), (1, vI v1), (2, vI v2), (4, vI v4)]) (hf : f_X4_on_j51 K rc5 v0 v1 v2 v4 t0 t1 h = some r) : AW s0 K lam p l e R s m args below meth c (AQ s0 K lam below oI b r s) b h (F0 m 51 ls [.int t0, .int t1]) := by
  unfold f_X4_on_j51 at hf
  have X := Z.1.1
  refine AW.lift (fun _ _ _ _ k => lv_iadd (pc := 51) X.2.2.1 X.2.2.2.1 dX4_on_51 k) ?_
  refine a_istore_n (pc := 52) X dX4_on_52 rfl hl (by decide) (lv' := [(3, vI (t1 + t0)), (0, vR v0), (1, vI v1), (2, vI v2), (4, vI v4)]) rfl (fun ls hl => ?_)
  refine a_iinc (pc := 53) (v := (v4 + (1 : Int32))) X dX4_on_53 hl (k := 4) rfl rfl (by decide) (lv' := [(4, vI (v4 + (1 : Int32))), (3, vI (t1 + t0)), (0, vR v0), (1, vI v1), (2, vI v2)]) rfl (fun ls hl => ?_)
  refine AW.lift (fun _ _ _ _ k => lv_goto (pc := 56) (tgt := 5) X.2.2.1 X.2.2.2.1 dX4_on_56 rfl k) ?_
  exact hrc5 (t1 + t0) (v4 + (1 : Int32)) _ _ (hl.sub [2, 3, 4, 1, 0] rfl) hf
theorem w_X4_on_b5 {r : Except Nat (Int32) × AH} (GA : GA l s0 a0 K lam) (Z : WZ l s0 a0 K p s m c cX4_on yX4_on.cls 5 b R 2 42 meth [] (some (.int)) yX4_on) (v0 : Option Nat) (v1 : Int32) (v2 : Int32) (v3 : Int32) (v4 : Int32)  (rc5 : Int32 → Int32 → AM (Int32)) (hrc5 : ∀ (v3 : Int32) (v4 : Int32) (h : AH) (ls : Array Slot), LV ls 5 [(0, vR v0), (1, vI v1), (2, vI v2), (3, vI v3), (4, vI v4)] → rc5 v3 v4 h = some r → AW s0 K lam p l e R s m args below meth c (AQ s0 K lam below oI b r s) b h (F0 m 5 ls [])) {h : AH} {ls : Array Slot} (hl : LV ls 5 [(0, vR v0), (1, vI v1), (2, vI v2), (3, vI v3), (4, vI v4)]) (hf : f_X4_on_b5 K rc5 v0 v1 v2 v3 v4 h = some r) : AW s0 K lam p l e R s m args below meth c (AQ s0 K lam below oI b r s) b h (F0 m 5 ls []) := by
  unfold f_X4_on_b5 at hf
  have X := Z.1.1
  refine a_iload (pc := 5) X dX4_on_5 hl 4 rfl ?_
  refine a_aload_n (pc := 7) X dX4_on_7 rfl hl 0 rfl ?_
  refine a_get (pc := 8) (φ := 100) pR_t X Z.1.2.1 (gw X.1 X.2.1 q3025) (fun _ q => q) (by decide) dX4_on_8 hf (fun x8 hf => ?_)
  refine AW.lift (fun _ _ _ _ k => lv_iconst (pc := 11) (v := (2 : Int32)) X.2.2.1 X.2.2.2.1 dX4_on_11 rfl k) ?_
  refine a_iaload (pc := 12) X dX4_on_12 hf (fun x12 hf => ?_)
  refine AW.lift2 (fun _ _ _ _ k1 k2 => lv_icmp_ge (pc := 13) (tgt := 59) X.2.2.1 X.2.2.2.1 dX4_on_13 rfl k1 k2) (fun c => ?_) (fun c => ?_)
  · have hf := ite_t c hf
    refine a_iload_n (pc := 59) X dX4_on_59 rfl hl 3 rfl ?_
    exact a_ireturn X Z.2.2.1 Z.2.2.2.1 dX4_on_60 hf
  · have hf := ite_f c hf
    refine a_iload_n (pc := 16) X dX4_on_16 rfl hl 3 rfl ?_
    refine a_aload_n (pc := 17) X dX4_on_17 rfl hl 0 rfl ?_
    refine a_iload (pc := 18) X dX4_on_18 hl 4 rfl ?_
    refine a_iload_n (pc := 20) X dX4_on_20 rfl hl 1 rfl ?_
    obtain ⟨a21, rfl, ⟨hk, hf⟩ | ⟨-, hf⟩⟩ := dv_some hf
    rotate_left
    · exact fl_none hf
    refine a_callb (pc := 21) (rs := [vI v3]) (avs := [vR (some a21), vI v4, vI v1]) Z.1 (w_X4_isOn GA (some a21) v4 v1) (Or.inl rfl) q3151 q86 (by decide) (by decide) dX4_on_21 hl.1 (Nat.le_of_ble_eq_true rfl) hf (ct_V hk ⟨by decide, by decide⟩ X (Or.inl rfl) q3151 q3148 q3150 pv_35 hy_X4_isOn np_X4_isOn rfl dX4_on_21) (fun q h he hX => a_out (unc_of Z.2.1 rfl) Z.2.2.2.1 he hX) (fun x21 h hf => ?kk21)
    refine AW.eq (g2 := F0 m 24 ls [.int x21, .int v3]) rfl ?_
    refine AW.lift2 (fun _ _ _ _ k1 k2 => lv_if_ne (pc := 24) (tgt := 31) X.2.2.1 X.2.2.2.1 dX4_on_24 rfl k2 k1) (fun c => ?_) (fun c => ?_)
    · have hf := ite_t c hf
      refine AW.lift (fun _ _ _ _ k => lv_iconst (pc := 27) (v := (0 : Int32)) X.2.2.1 X.2.2.2.1 dX4_on_27 rfl k) ?_
      refine AW.lift (fun _ _ _ _ k => lv_goto (pc := 28) (tgt := 51) X.2.2.1 X.2.2.2.1 dX4_on_28 rfl k) ?_
      exact w_X4_on_j51 GA Z (some a21) v1 v2 v4 (0 : Int32) v3 rc5 hrc5 (hl.sub [0, 1, 2, 4] rfl) hf
    · have hf := ite_f c hf
      refine a_iload_n (pc := 31) X dX4_on_31 rfl hl 2 rfl ?_
      refine AW.lift2 (fun _ _ _ _ k1 k2 => lv_if_eq (pc := 32) (tgt := 50) X.2.2.1 X.2.2.2.1 dX4_on_32 rfl k1 k2) (fun c => ?_) (fun c => ?_)
      · have hf := ite_t c hf
        refine AW.lift (fun _ _ _ _ k => lv_iconst (pc := 50) (v := (1 : Int32)) X.2.2.1 X.2.2.2.1 dX4_on_50 rfl k) ?_
        exact w_X4_on_j51 GA Z (some a21) v1 v2 v4 (1 : Int32) v3 rc5 hrc5 (hl.sub [0, 1, 2, 4] rfl) hf
      · have hf := ite_f c hf
        refine a_aload_n (pc := 35) X dX4_on_35 rfl hl 0 rfl ?_
        refine a_get (pc := 36) (φ := 100) pR_t X Z.1.2.1 (gw X.1 X.2.1 q3025) (fun _ q => q) (by decide) dX4_on_36 hf (fun x36 hf => ?_)
        refine a_iload (pc := 39) X dX4_on_39 hl 4 rfl ?_
        refine a_callb (pc := 41) (rs := [vR x36, vI v3]) (avs := [vI v4]) Z.1 (w_X4_at0 GA v4) (Or.inl rfl) q3154 q86 (by decide) (by decide) dX4_on_41 hl.1 (Nat.le_of_ble_eq_true rfl) hf (ct_S X (Or.inl rfl) q3154 q86 q3152 q3153 hy_X4_at0 np_X4_at0 rfl dX4_on_41) (fun q h he hX => a_out (unc_of Z.2.1 rfl) Z.2.2.2.1 he hX) (fun x41 h hf => ?kk41)
        refine AW.eq (g2 := F0 m 44 ls [.int x41, va_rf x36, .int v3]) rfl ?_
        refine AW.lift (fun _ _ _ _ k => lv_iconst (pc := 44) (v := (0 : Int32)) X.2.2.1 X.2.2.2.1 dX4_on_44 rfl k) ?_
        refine AW.lift (fun _ _ _ _ k => lv_iadd (pc := 45) X.2.2.1 X.2.2.2.1 dX4_on_45 k) ?_
        refine a_iaload (pc := 46) X dX4_on_46 hf (fun x46 hf => ?_)
        refine AW.lift (fun _ _ _ _ k => lv_goto (pc := 47) (tgt := 51) X.2.2.1 X.2.2.2.1 dX4_on_47 rfl k) ?_
        exact w_X4_on_j51 GA Z (some a21) v1 v2 v4 x46 v3 rc5 hrc5 (hl.sub [0, 1, 2, 4] rfl) hf
theorem w_X4_on_l5 {r : Except Nat (Int32) × AH} (GA : GA l s0 a0 K lam) (Z : WZ l s0 a0 K p s m c cX4_on yX4_on.cls 5 b R 2 42 meth [] (some (.int)) yX4_on) (v0 : Option Nat) (v1 : Int32) (v2 : Int32)  : ∀ (n : Nat) (v3 : Int32) (v4 : Int32) (h : AH) (ls : Array Slot), LV ls 5 [(0, vR v0), (1, vI v1), (2, vI v2), (3, vI v3), (4, vI v4)] → f_X4_on_l5 K v0 v1 v2 n v3 v4 h = some r → AW s0 K lam p l e R s m args below meth c (AQ s0 K lam below oI b r s) b h (F0 m 5 ls []) := by
  intro n
  induction n with
  | zero => intro v3 v4 h ls hl hf; exact fl_no (h := h) hf
  | succ n ih => intro v3 v4 h ls hl hf; exact w_X4_on_b5 GA Z v0 v1 v2 v3 v4 (f_X4_on_l5 K v0 v1 v2 n) ih hl hf
theorem np_X4_on : npar yX4_on.desc 2 := by unfold npar; decide +kernel
theorem hy_X4_on : yX4_on.cls ≠ "java/lang/invoke/MethodHandle" ∧ yX4_on.cls ≠ "java/lang/invoke/VarHandle" := by decide +kernel
theorem w_X4_on (GA : GA l s0 a0 K lam) (v0 : Option Nat) (v1 : Int32) (v2 : Int32) : AMet l s0 K lam yX4_on (Cond.code yX4_on cX4_on (5 : Nat) (Option.some ClassFile.FieldType.int)) 2 42 [vR v0, vI v1, vI v2] oI (f_X4_on K v0 v1 v2) := by
  refine AMet.of GA.1 (plainFor_of_name (by decide +kernel)) (Nat.le_of_ble_eq_true rfl) ?_
  intro b r hf p e s m args below meth c X hr hlk hnm hnd ht ls hl
  have Z : WZ l s0 a0 K p s m c cX4_on yX4_on.cls 5 b { frames := 2, cells := K 0 - aX b, slots := K 1 - aW b, locals := 42 } 2 42 meth [] (some (.int)) yX4_on := ⟨⟨X, GA.2.1, GA.2.2.1, rfl, rfl, Nat.le_refl _, Nat.le_refl _⟩, tab_nil ht, hr, hlk, hnm, hnd⟩
  unfold f_X4_on at hf
  clear hr hlk hnm hnd ht
  refine AW.lift (fun _ _ _ _ k => lv_iconst (pc := 0) (v := (0 : Int32)) X.2.2.1 X.2.2.2.1 dX4_on_0 rfl k) ?_
  refine a_istore_n (pc := 1) X dX4_on_1 rfl hl (by decide) (lv' := [(3, vI (0 : Int32)), (0, vR v0), (1, vI v1), (2, vI v2)]) rfl (fun ls hl => ?_)
  refine AW.lift (fun _ _ _ _ k => lv_iconst (pc := 2) (v := (0 : Int32)) X.2.2.1 X.2.2.2.1 dX4_on_2 rfl k) ?_
  refine a_istore (pc := 3) X dX4_on_3 hl (by decide) (lv' := [(4, vI (0 : Int32)), (3, vI (0 : Int32)), (0, vR v0), (1, vI v1), (2, vI v2)]) rfl (fun ls hl => ?_)
  exact w_X4_on_l5 GA Z v0 v1 v2  FU (0 : Int32) (0 : Int32) _ _ (hl.sub [2, 3, 4, 1, 0] rfl) hf
theorem w_X4_matOf_j111 {r : Except Nat (Int32) × AH} (GA : GA l s0 a0 K lam) (Z : WZ l s0 a0 K p s m c cX4_matOf yX4_matOf.cls 3 b R 3 66 meth [] (some (.int)) yX4_matOf)  (t0 : Int32) (t1 : Int32) (t2 : Option Nat)  {h : AH} {ls : Array Slot} (hl : LV ls 3 []) (hf : f_X4_matOf_j111 K t0 t1 t2 h = some r) : AW s0 K lam p l e R s m args below meth c (AQ s0 K lam below oI b r s) b h (F0 m 111 ls [.int t0, .int t1, va_rf t2]) := by
  unfold f_X4_matOf_j111 at hf
  have X := Z.1.1
  obtain ⟨a111, rfl, ⟨hk, hf⟩ | ⟨-, hf⟩⟩ := dv_some hf
  rotate_left
  · exact fl_none hf
  refine a_callb (pc := 111) (rs := []) (avs := [vR (some a111), vI t1, vI t0]) Z.1 (w_X4_on GA (some a111) t1 t0) (Or.inl rfl) q3182 q86 (by decide) (by decide) dX4_matOf_111 hl.1 (Nat.le_of_ble_eq_true rfl) hf (ct_V hk ⟨by decide, by decide⟩ X (Or.inl rfl) q3182 q3179 q3181 pv_40 hy_X4_on np_X4_on rfl dX4_matOf_111) (fun q h he hX => a_out (unc_of Z.2.1 rfl) Z.2.2.2.1 he hX) (fun x111 h hf => ?kk111)
  refine AW.eq (g2 := F0 m 114 ls [.int x111]) rfl ?_
  exact a_ireturn X Z.2.2.1 Z.2.2.2.1 dX4_matOf_114 hf
theorem np_X4_matOf : npar yX4_matOf.desc 2 := by unfold npar; decide +kernel
theorem hy_X4_matOf : yX4_matOf.cls ≠ "java/lang/invoke/MethodHandle" ∧ yX4_matOf.cls ≠ "java/lang/invoke/VarHandle" := by decide +kernel
theorem w_X4_matOf (GA : GA l s0 a0 K lam) (v0 : Option Nat) (v1 : Int32) (v2 : Int32) : AMet l s0 K lam yX4_matOf (Cond.code yX4_matOf cX4_matOf (3 : Nat) (Option.some ClassFile.FieldType.int)) 3 66 [vR v0, vI v1, vI v2] oI (f_X4_matOf K v0 v1 v2) := by
  refine AMet.of GA.1 (plainFor_of_name (by decide +kernel)) (Nat.le_of_ble_eq_true rfl) ?_
  intro b r hf p e s m args below meth c X hr hlk hnm hnd ht ls hl
  have Z : WZ l s0 a0 K p s m c cX4_matOf yX4_matOf.cls 3 b { frames := 3, cells := K 0 - aX b, slots := K 1 - aW b, locals := 66 } 3 66 meth [] (some (.int)) yX4_matOf := ⟨⟨X, GA.2.1, GA.2.2.1, rfl, rfl, Nat.le_refl _, Nat.le_refl _⟩, tab_nil ht, hr, hlk, hnm, hnd⟩
  unfold f_X4_matOf at hf
  clear hr hlk hnm hnd ht
  refine a_aload_n (pc := 0) X dX4_matOf_0 rfl hl 0 rfl ?_
  refine AW.lift (fun _ _ _ _ k => lv_iconst (pc := 1) (v := (0 : Int32)) X.2.2.1 X.2.2.2.1 dX4_matOf_1 rfl k) ?_
  refine a_put (pc := 2) (φ := 107) X Z.1.2.1 Z.1.2.2.1 (gw X.1 X.2.1 q3032) (fun _ q => q) (by decide) rfl rfl dX4_matOf_2 hf (fun h hf => ?_)
  refine a_aload_n (pc := 5) X dX4_matOf_5 rfl hl 0 rfl ?_
  refine a_iload_n (pc := 6) X dX4_matOf_6 rfl hl 1 rfl ?_
  obtain ⟨a7, rfl, ⟨hk, hf⟩ | ⟨-, hf⟩⟩ := dv_some hf
  rotate_left
  · exact fl_none hf
  refine a_callb (pc := 7) (rs := []) (avs := [vR (some a7), vI v1]) Z.1 (w_X4_isMat GA (some a7) v1) (Or.inl rfl) q3139 q86 (by decide) (by decide) dX4_matOf_7 hl.1 (Nat.le_of_ble_eq_true rfl) hf (ct_V hk ⟨by decide, by decide⟩ X (Or.inl rfl) q3139 q3136 q3138 pv_33 hy_X4_isMat np_X4_isMat rfl dX4_matOf_7) (fun q h he hX => a_out (unc_of Z.2.1 rfl) Z.2.2.2.1 he hX) (fun x7 h hf => ?kk7)
  refine AW.eq (g2 := F0 m 10 ls [.int x7]) rfl ?_
  refine AW.lift2 (fun _ _ _ _ k1 k2 => lv_if_ne (pc := 10) (tgt := 19) X.2.2.1 X.2.2.2.1 dX4_matOf_10 rfl k2 k1) (fun c => ?_) (fun c => ?_)
  · have hf := ite_t c hf
    refine a_aload_n (pc := 13) X dX4_matOf_13 rfl hl 0 rfl ?_
    refine AW.lift (fun _ _ _ _ k => lv_iconst (pc := 14) (v := (1 : Int32)) X.2.2.1 X.2.2.2.1 dX4_matOf_14 rfl k) ?_
    rcases dv_someS hf with ⟨hk, hf⟩ | ⟨-, hf⟩
    rotate_left
    · exact fl_none hf
    refine a_callb (pc := 15) (rs := []) (avs := [vR (some a7), vI (1 : Int32)]) Z.1 (w_X4_throwing GA (some a7) (1 : Int32)) (Or.inl rfl) q3120 q86 (by decide) (by decide) dX4_matOf_15 hl.1 (Nat.le_of_ble_eq_true rfl) hf (ct_V hk ⟨by decide, by decide⟩ X (Or.inl rfl) q3120 q3117 q3119 pv_30 hy_X4_throwing np_X4_throwing rfl dX4_matOf_15) (fun q h he hX => a_out (unc_of Z.2.1 rfl) Z.2.2.2.1 he hX) (fun x15 h hf => ?kk15)
    refine AW.eq (g2 := F0 m 18 ls [.int x15]) rfl ?_
    exact a_ireturn X Z.2.2.1 Z.2.2.2.1 dX4_matOf_18 hf
  · have hf := ite_f c hf
    refine a_iload_n (pc := 19) X dX4_matOf_19 rfl hl 2 rfl ?_
    by_cases c0 : v2 = (0 : Int32)
    · have hf := ite_t c0 hf
      refine AW.lift (fun _ _ _ _ k => lv_tableIn (pc := 20) (tgt := 68) (off := 48) X.2.2.1 X.2.2.2.1 dX4_matOf_20 (by rw [c0]; decide) (by rw [c0]; decide) (by rw [c0]; rfl) rfl k) ?_
      refine a_aload_n (pc := 68) X dX4_matOf_68 rfl hl 0 rfl ?_
      refine a_iload_n (pc := 69) X dX4_matOf_69 rfl hl 1 rfl ?_
      rcases dv_someS hf with ⟨hk, hf⟩ | ⟨-, hf⟩
      rotate_left
      · exact fl_none hf
      refine a_callb (pc := 70) (rs := []) (avs := [vR (some a7), vI v1]) Z.1 (w_X4_bears GA (some a7) v1) (Or.inl rfl) q3158 q86 (by decide) (by decide) dX4_matOf_70 hl.1 (Nat.le_of_ble_eq_true rfl) hf (ct_V hk ⟨by decide, by decide⟩ X (Or.inl rfl) q3158 q3155 q3157 pv_36 hy_X4_bears np_X4_bears rfl dX4_matOf_70) (fun q h he hX => a_out (unc_of Z.2.1 rfl) Z.2.2.2.1 he hX) (fun x70 h hf => ?kk70)
      refine AW.eq (g2 := F0 m 73 ls [.int x70]) rfl ?_
      exact a_ireturn X Z.2.2.1 Z.2.2.2.1 dX4_matOf_73 hf
    have hf := ite_f c0 hf
    by_cases c1 : v2 = (1 : Int32)
    · have hf := ite_t c1 hf
      refine AW.lift (fun _ _ _ _ k => lv_tableIn (pc := 20) (tgt := 74) (off := 54) X.2.2.1 X.2.2.2.1 dX4_matOf_20 (by rw [c1]; decide) (by rw [c1]; decide) (by rw [c1]; rfl) rfl k) ?_
      refine a_aload_n (pc := 74) X dX4_matOf_74 rfl hl 0 rfl ?_
      refine a_iload_n (pc := 75) X dX4_matOf_75 rfl hl 1 rfl ?_
      rcases dv_someS hf with ⟨hk, hf⟩ | ⟨-, hf⟩
      rotate_left
      · exact fl_none hf
      refine a_callb (pc := 76) (rs := []) (avs := [vR (some a7), vI v1]) Z.1 (w_X4_broken GA (some a7) v1) (Or.inl rfl) q3162 q86 (by decide) (by decide) dX4_matOf_76 hl.1 (Nat.le_of_ble_eq_true rfl) hf (ct_V hk ⟨by decide, by decide⟩ X (Or.inl rfl) q3162 q3159 q3161 pv_37 hy_X4_broken np_X4_broken rfl dX4_matOf_76) (fun q h he hX => a_out (unc_of Z.2.1 rfl) Z.2.2.2.1 he hX) (fun x76 h hf => ?kk76)
      refine AW.eq (g2 := F0 m 79 ls [.int x76]) rfl ?_
      exact a_ireturn X Z.2.2.1 Z.2.2.2.1 dX4_matOf_79 hf
    have hf := ite_f c1 hf
    by_cases c2 : v2 = (2 : Int32)
    · have hf := ite_t c2 hf
      refine AW.lift (fun _ _ _ _ k => lv_tableIn (pc := 20) (tgt := 80) (off := 60) X.2.2.1 X.2.2.2.1 dX4_matOf_20 (by rw [c2]; decide) (by rw [c2]; decide) (by rw [c2]; rfl) rfl k) ?_
      refine a_aload_n (pc := 80) X dX4_matOf_80 rfl hl 0 rfl ?_
      refine a_iload_n (pc := 81) X dX4_matOf_81 rfl hl 1 rfl ?_
      rcases dv_someS hf with ⟨hk, hf⟩ | ⟨-, hf⟩
      rotate_left
      · exact fl_none hf
      refine a_callb (pc := 82) (rs := []) (avs := [vR (some a7), vI v1]) Z.1 (w_X4_wears GA (some a7) v1) (Or.inl rfl) q3178 q86 (by decide) (by decide) dX4_matOf_82 hl.1 (Nat.le_of_ble_eq_true rfl) hf (ct_V hk ⟨by decide, by decide⟩ X (Or.inl rfl) q3178 q3175 q3177 pv_39 hy_X4_wears np_X4_wears rfl dX4_matOf_82) (fun q h he hX => a_out (unc_of Z.2.1 rfl) Z.2.2.2.1 he hX) (fun x82 h hf => ?kk82)
      refine AW.eq (g2 := F0 m 85 ls [.int x82]) rfl ?_
      exact a_ireturn X Z.2.2.1 Z.2.2.2.1 dX4_matOf_85 hf
    have hf := ite_f c2 hf
    by_cases c3 : v2 = (3 : Int32)
    · have hf := ite_t c3 hf
      refine AW.lift (fun _ _ _ _ k => lv_tableIn (pc := 20) (tgt := 86) (off := 66) X.2.2.1 X.2.2.2.1 dX4_matOf_20 (by rw [c3]; decide) (by rw [c3]; decide) (by rw [c3]; rfl) rfl k) ?_
      refine a_aload_n (pc := 86) X dX4_matOf_86 rfl hl 0 rfl ?_
      refine a_get (pc := 87) (φ := 100) pR_t X Z.1.2.1 (gw X.1 X.2.1 q3025) (fun _ q => q) (by decide) dX4_matOf_87 hf (fun x87 hf => ?_)
      refine a_iload_n (pc := 90) X dX4_matOf_90 rfl hl 1 rfl ?_
      refine a_callb (pc := 91) (rs := [vR x87]) (avs := [vI v1]) Z.1 (w_X4_of GA v1) (Or.inl rfl) q3123 q86 (by decide) (by decide) dX4_matOf_91 hl.1 (Nat.le_of_ble_eq_true rfl) hf (ct_S X (Or.inl rfl) q3123 q86 q3121 q3122 hy_X4_of np_X4_of rfl dX4_matOf_91) (fun q h he hX => a_out (unc_of Z.2.1 rfl) Z.2.2.2.1 he hX) (fun x91 h hf => ?kk91)
      refine AW.eq (g2 := F0 m 94 ls [.int x91, va_rf x87]) rfl ?_
      refine AW.lift (fun _ _ _ _ k => lv_bipush (pc := 94) (v := (8 : Int32)) X.2.2.1 X.2.2.2.1 dX4_matOf_94 rfl k) ?_
      refine AW.lift (fun _ _ _ _ k => lv_iadd (pc := 96) X.2.2.1 X.2.2.2.1 dX4_matOf_96 k) ?_
      refine a_iaload (pc := 97) X dX4_matOf_97 hf (fun x97 hf => ?_)
      exact a_ireturn X Z.2.2.1 Z.2.2.2.1 dX4_matOf_98 hf
    have hf := ite_f c3 hf
    by_cases c4 : v2 = (4 : Int32)
    · have hf := ite_t c4 hf
      refine AW.lift (fun _ _ _ _ k => lv_tableIn (pc := 20) (tgt := 99) (off := 79) X.2.2.1 X.2.2.2.1 dX4_matOf_20 (by rw [c4]; decide) (by rw [c4]; decide) (by rw [c4]; rfl) rfl k) ?_
      refine a_aload_n (pc := 99) X dX4_matOf_99 rfl hl 0 rfl ?_
      refine a_iload_n (pc := 100) X dX4_matOf_100 rfl hl 1 rfl ?_
      refine a_iload_n (pc := 101) X dX4_matOf_101 rfl hl 2 rfl ?_
      refine AW.lift (fun _ _ _ _ k => lv_iconst (pc := 102) (v := (5 : Int32)) X.2.2.1 X.2.2.2.1 dX4_matOf_102 rfl k) ?_
      refine AW.lift2 (fun _ _ _ _ k1 k2 => lv_icmp_ne (pc := 103) (tgt := 110) X.2.2.1 X.2.2.2.1 dX4_matOf_103 rfl k2 k1) (fun c => ?_) (fun c => ?_)
      · have hf := ite_t c hf
        refine AW.lift (fun _ _ _ _ k => lv_iconst (pc := 106) (v := (1 : Int32)) X.2.2.1 X.2.2.2.1 dX4_matOf_106 rfl k) ?_
        refine AW.lift (fun _ _ _ _ k => lv_goto (pc := 107) (tgt := 111) X.2.2.1 X.2.2.2.1 dX4_matOf_107 rfl k) ?_
        exact w_X4_matOf_j111 GA Z  (1 : Int32) v1 (some a7)  (hl.sub [] rfl) hf
      · have hf := ite_f c hf
        refine AW.lift (fun _ _ _ _ k => lv_iconst (pc := 110) (v := (0 : Int32)) X.2.2.1 X.2.2.2.1 dX4_matOf_110 rfl k) ?_
        exact w_X4_matOf_j111 GA Z  (0 : Int32) v1 (some a7)  (hl.sub [] rfl) hf
    have hf := ite_f c4 hf
    by_cases c5 : v2 = (5 : Int32)
    · have hf := ite_t c5 hf
      refine AW.lift (fun _ _ _ _ k => lv_tableIn (pc := 20) (tgt := 99) (off := 79) X.2.2.1 X.2.2.2.1 dX4_matOf_20 (by rw [c5]; decide) (by rw [c5]; decide) (by rw [c5]; rfl) rfl k) ?_
      refine a_aload_n (pc := 99) X dX4_matOf_99 rfl hl 0 rfl ?_
      refine a_iload_n (pc := 100) X dX4_matOf_100 rfl hl 1 rfl ?_
      refine a_iload_n (pc := 101) X dX4_matOf_101 rfl hl 2 rfl ?_
      refine AW.lift (fun _ _ _ _ k => lv_iconst (pc := 102) (v := (5 : Int32)) X.2.2.1 X.2.2.2.1 dX4_matOf_102 rfl k) ?_
      refine AW.lift2 (fun _ _ _ _ k1 k2 => lv_icmp_ne (pc := 103) (tgt := 110) X.2.2.1 X.2.2.2.1 dX4_matOf_103 rfl k2 k1) (fun c => ?_) (fun c => ?_)
      · have hf := ite_t c hf
        refine AW.lift (fun _ _ _ _ k => lv_iconst (pc := 106) (v := (1 : Int32)) X.2.2.1 X.2.2.2.1 dX4_matOf_106 rfl k) ?_
        refine AW.lift (fun _ _ _ _ k => lv_goto (pc := 107) (tgt := 111) X.2.2.1 X.2.2.2.1 dX4_matOf_107 rfl k) ?_
        exact w_X4_matOf_j111 GA Z  (1 : Int32) v1 (some a7)  (hl.sub [] rfl) hf
      · have hf := ite_f c hf
        refine AW.lift (fun _ _ _ _ k => lv_iconst (pc := 110) (v := (0 : Int32)) X.2.2.1 X.2.2.2.1 dX4_matOf_110 rfl k) ?_
        exact w_X4_matOf_j111 GA Z  (0 : Int32) v1 (some a7)  (hl.sub [] rfl) hf
    have hf := ite_f c5 hf
    by_cases c6 : v2 = (6 : Int32)
    · have hf := ite_t c6 hf
      refine AW.lift (fun _ _ _ _ k => lv_tableIn (pc := 20) (tgt := 115) (off := 95) X.2.2.1 X.2.2.2.1 dX4_matOf_20 (by rw [c6]; decide) (by rw [c6]; decide) (by rw [c6]; rfl) rfl k) ?_
      refine a_aload_n (pc := 115) X dX4_matOf_115 rfl hl 0 rfl ?_
      refine a_iload_n (pc := 116) X dX4_matOf_116 rfl hl 1 rfl ?_
      rcases dv_someS hf with ⟨hk, hf⟩ | ⟨-, hf⟩
      rotate_left
      · exact fl_none hf
      refine a_callb (pc := 117) (rs := []) (avs := [vR (some a7), vI v1]) Z.1 (w_X4_guardAt GA (some a7) v1) (Or.inl rfl) q3186 q86 (by decide) (by decide) dX4_matOf_117 hl.1 (Nat.le_of_ble_eq_true rfl) hf (ct_V hk ⟨by decide, by decide⟩ X (Or.inl rfl) q3186 q3183 q3185 pv_41 hy_X4_guardAt np_X4_guardAt rfl dX4_matOf_117) (fun q h he hX => a_out (unc_of Z.2.1 rfl) Z.2.2.2.1 he hX) (fun x117 h hf => ?kk117)
      refine AW.eq (g2 := F0 m 120 ls [.int x117]) rfl ?_
      exact a_ireturn X Z.2.2.1 Z.2.2.2.1 dX4_matOf_120 hf
    have hf := ite_f c6 hf
    by_cases c7 : v2 = (7 : Int32)
    · have hf := ite_t c7 hf
      refine AW.lift (fun _ _ _ _ k => lv_tableIn (pc := 20) (tgt := 121) (off := 101) X.2.2.1 X.2.2.2.1 dX4_matOf_20 (by rw [c7]; decide) (by rw [c7]; decide) (by rw [c7]; rfl) rfl k) ?_
      refine a_aload_n (pc := 121) X dX4_matOf_121 rfl hl 0 rfl ?_
      refine a_get (pc := 122) (φ := 100) pR_t X Z.1.2.1 (gw X.1 X.2.1 q3025) (fun _ q => q) (by decide) dX4_matOf_122 hf (fun x122 hf => ?_)
      refine a_iload_n (pc := 125) X dX4_matOf_125 rfl hl 1 rfl ?_
      refine a_callb (pc := 126) (rs := [vR x122]) (avs := [vI v1]) Z.1 (w_X4_of GA v1) (Or.inl rfl) q3123 q86 (by decide) (by decide) dX4_matOf_126 hl.1 (Nat.le_of_ble_eq_true rfl) hf (ct_S X (Or.inl rfl) q3123 q86 q3121 q3122 hy_X4_of np_X4_of rfl dX4_matOf_126) (fun q h he hX => a_out (unc_of Z.2.1 rfl) Z.2.2.2.1 he hX) (fun x126 h hf => ?kk126)
      refine AW.eq (g2 := F0 m 129 ls [.int x126, va_rf x122]) rfl ?_
      refine AW.lift (fun _ _ _ _ k => lv_bipush (pc := 129) (v := (9 : Int32)) X.2.2.1 X.2.2.2.1 dX4_matOf_129 rfl k) ?_
      refine AW.lift (fun _ _ _ _ k => lv_iadd (pc := 131) X.2.2.1 X.2.2.2.1 dX4_matOf_131 k) ?_
      refine a_iaload (pc := 132) X dX4_matOf_132 hf (fun x132 hf => ?_)
      exact a_ireturn X Z.2.2.1 Z.2.2.2.1 dX4_matOf_133 hf
    have hf := ite_f c7 hf
    have n0 := lv_neT (a := 0) c0 rfl
    have n1 := lv_neT (a := 1) c1 rfl
    have n2 := lv_neT (a := 2) c2 rfl
    have n3 := lv_neT (a := 3) c3 rfl
    have n4 := lv_neT (a := 4) c4 rfl
    have n5 := lv_neT (a := 5) c5 rfl
    have n6 := lv_neT (a := 6) c6 rfl
    have n7 := lv_neT (a := 7) c7 rfl
    refine AW.lift (fun _ _ _ _ k => lv_tableOut (pc := 20) (tgt := 134) X.2.2.1 X.2.2.2.1 dX4_matOf_20 (by omega) rfl k) ?_
    refine a_aload_n (pc := 134) X dX4_matOf_134 rfl hl 0 rfl ?_
    refine AW.lift (fun _ _ _ _ k => lv_iconst (pc := 135) (v := (2 : Int32)) X.2.2.1 X.2.2.2.1 dX4_matOf_135 rfl k) ?_
    rcases dv_someS hf with ⟨hk, hf⟩ | ⟨-, hf⟩
    rotate_left
    · exact fl_none hf
    refine a_callb (pc := 136) (rs := []) (avs := [vR (some a7), vI (2 : Int32)]) Z.1 (w_X4_throwing GA (some a7) (2 : Int32)) (Or.inl rfl) q3120 q86 (by decide) (by decide) dX4_matOf_136 hl.1 (Nat.le_of_ble_eq_true rfl) hf (ct_V hk ⟨by decide, by decide⟩ X (Or.inl rfl) q3120 q3117 q3119 pv_30 hy_X4_throwing np_X4_throwing rfl dX4_matOf_136) (fun q h he hX => a_out (unc_of Z.2.1 rfl) Z.2.2.2.1 he hX) (fun x136 h hf => ?kk136)
    refine AW.eq (g2 := F0 m 139 ls [.int x136]) rfl ?_
    exact a_ireturn X Z.2.2.1 Z.2.2.2.1 dX4_matOf_139 hf
theorem w_X1_wear_j26 {r : Except Nat (Int32) × AH} (GA : GA l s0 a0 K lam) (Z : WZ l s0 a0 K p s m c cX1_wear yX1_wear.cls 3 b R 9 420 meth [] (some (.int)) yX1_wear) (v0 : Option Nat) (v1 : Int32) (v2 : Int32) (t0 : Int32)  {h : AH} {ls : Array Slot} (hl : LV ls 3 [(0, vR v0), (1, vI v1), (2, vI v2)]) (hf : f_X1_wear_j26 K v0 v1 v2 t0 h = some r) : AW s0 K lam p l e R s m args below meth c (AQ s0 K lam below oI b r s) b h (F0 m 26 ls [.int t0]) := by
  unfold f_X1_wear_j26 at hf
  have X := Z.1.1
  refine a_callb (pc := 26) (rs := []) (avs := [vI t0]) Z.1 (w_X1_checkIndex GA t0) (Or.inl rfl) q1816 q74 (by decide) (by decide) dX1_wear_26 hl.1 (Nat.le_of_ble_eq_true rfl) hf (ct_S X (Or.inl rfl) q1816 q74 q1814 q1815 hy_X1_checkIndex np_X1_checkIndex rfl dX1_wear_26) (fun q h he hX => a_out (unc_of Z.2.1 rfl) Z.2.2.2.1 he hX) (fun _ h hf => ?kk26)
  refine AW.eq (g2 := F0 m 29 ls []) rfl ?_
  refine a_aload_n (pc := 29) X dX1_wear_29 rfl hl 0 rfl ?_
  refine a_get (pc := 30) (φ := 200) pR_t X Z.1.2.1 (gw X.1 X.2.1 q309) (fun _ q => q) (by decide) dX1_wear_30 hf (fun x30 hf => ?_)
  refine a_getN (pc := 33) (φ := 300) pR_t X Z.1.2.1 (gnF X.1 X.2.1 q229) (fun _ q => q) (by decide) dX1_wear_33 hf (fun x33 hf => ?_)
  refine a_iload_n (pc := 36) X dX1_wear_36 rfl hl 1 rfl ?_
  obtain ⟨a37, rfl, ⟨hk, hf⟩ | ⟨-, hf⟩⟩ := dv_some hf
  rotate_left
  · exact fl_none hf
  refine a_callb (pc := 37) (rs := []) (avs := [vR (some a37), vI v1]) Z.1 (w_J2_get GA (some a37) v1) (Or.inl rfl) q505 q78 (by decide) (by decide) dX1_wear_37 hl.1 (Nat.le_of_ble_eq_true rfl) hf (ct_V hk ⟨by decide, by decide⟩ X (Or.inl rfl) q505 q1862 q503 q3487 hy_J2_get np_J2_get rfl dX1_wear_37) (fun q h he hX => a_out (unc_of Z.2.1 rfl) Z.2.2.2.1 he hX) (fun x37 h hf => ?kk37)
  refine AW.eq (g2 := F0 m 40 ls [va_rf x37]) rfl ?_
  refine a_checkcast (pc := 40) X (gw X.1 X.2.1 q1863) (cs_JumpHall_Mat GA) dX1_wear_40 hf (fun hf => ?_)
  refine a_getN (pc := 43) (φ := 400) pR_t X Z.1.2.1 (gnF X.1 X.2.1 q815) (fun _ q => q) (by decide) dX1_wear_43 hf (fun x43 hf => ?_)
  refine a_iload_n (pc := 46) X dX1_wear_46 rfl hl 2 rfl ?_
  refine a_iaload (pc := 47) X dX1_wear_47 hf (fun x47 hf => ?_)
  exact a_ireturn X Z.2.2.1 Z.2.2.2.1 dX1_wear_48 hf
theorem w_X1_wear_j25 {r : Except Nat (Int32) × AH} (GA : GA l s0 a0 K lam) (Z : WZ l s0 a0 K p s m c cX1_wear yX1_wear.cls 3 b R 9 420 meth [] (some (.int)) yX1_wear) (v0 : Option Nat) (v1 : Int32) (v2 : Int32)   {h : AH} {ls : Array Slot} (hl : LV ls 3 [(0, vR v0), (1, vI v1), (2, vI v2)]) (hf : f_X1_wear_j25 K v0 v1 v2 h = some r) : AW s0 K lam p l e R s m args below meth c (AQ s0 K lam below oI b r s) b h (F0 m 25 ls []) := by
  unfold f_X1_wear_j25 at hf
  have X := Z.1.1
  refine AW.lift (fun _ _ _ _ k => lv_iconst (pc := 25) (v := (0 : Int32)) X.2.2.1 X.2.2.2.1 dX1_wear_25 rfl k) ?_
  exact w_X1_wear_j26 GA Z v0 v1 v2 (0 : Int32)  (hl.sub [0, 1, 2] rfl) hf
theorem np_X1_wear : npar yX1_wear.desc 2 := by unfold npar; decide +kernel
theorem hy_X1_wear : yX1_wear.cls ≠ "java/lang/invoke/MethodHandle" ∧ yX1_wear.cls ≠ "java/lang/invoke/VarHandle" := by decide +kernel
theorem w_X1_wear (GA : GA l s0 a0 K lam) (v0 : Option Nat) (v1 : Int32) (v2 : Int32) : AMet l s0 K lam yX1_wear (Cond.code yX1_wear cX1_wear (3 : Nat) (Option.some ClassFile.FieldType.int)) 9 420 [vR v0, vI v1, vI v2] oI (f_X1_wear K v0 v1 v2) := by
  refine AMet.of GA.1 (plainFor_of_name (by decide +kernel)) (Nat.le_of_ble_eq_true rfl) ?_
  intro b r hf p e s m args below meth c X hr hlk hnm hnd ht ls hl
  have Z : WZ l s0 a0 K p s m c cX1_wear yX1_wear.cls 3 b { frames := 9, cells := K 0 - aX b, slots := K 1 - aW b, locals := 420 } 9 420 meth [] (some (.int)) yX1_wear := ⟨⟨X, GA.2.1, GA.2.2.1, rfl, rfl, Nat.le_refl _, Nat.le_refl _⟩, tab_nil ht, hr, hlk, hnm, hnd⟩
  unfold f_X1_wear at hf
  clear hr hlk hnm hnd ht
  refine a_aload_n (pc := 0) X dX1_wear_0 rfl hl 0 rfl ?_
  refine a_get (pc := 1) (φ := 200) pR_t X Z.1.2.1 (gw X.1 X.2.1 q309) (fun _ q => q) (by decide) dX1_wear_1 hf (fun x1 hf => ?_)
  refine a_iload_n (pc := 4) X dX1_wear_4 rfl hl 1 rfl ?_
  obtain ⟨a5, rfl, ⟨hk, hf⟩ | ⟨-, hf⟩⟩ := dv_some hf
  rotate_left
  · exact fl_none hf
  refine a_callb (pc := 5) (rs := []) (avs := [vR (some a5), vI v1]) Z.1 (w_X2_isMat GA (some a5) v1) (Or.inl rfl) q1809 q75 (by decide) (by decide) dX1_wear_5 hl.1 (Nat.le_of_ble_eq_true rfl) hf (ct_V hk ⟨by decide, by decide⟩ X (Or.inl rfl) q1809 q1806 q1807 q1808 hy_X2_isMat np_X2_isMat rfl dX1_wear_5) (fun q h he hX => a_out (unc_of Z.2.1 rfl) Z.2.2.2.1 he hX) (fun x5 h hf => ?kk5)
  refine AW.eq (g2 := F0 m 8 ls [.int x5]) rfl ?_
  refine AW.lift2 (fun _ _ _ _ k1 k2 => lv_if_eq (pc := 8) (tgt := 25) X.2.2.1 X.2.2.2.1 dX1_wear_8 rfl k1 k2) (fun c => ?_) (fun c => ?_)
  · have hf := ite_t c hf
    exact w_X1_wear_j25 GA Z v0 v1 v2   (hl.sub [0, 1, 2] rfl) hf
  · have hf := ite_f c hf
    refine a_iload_n (pc := 11) X dX1_wear_11 rfl hl 2 rfl ?_
    refine AW.lift (fun _ _ _ _ k => lv_iconst (pc := 12) (v := (0 : Int32)) X.2.2.1 X.2.2.2.1 dX1_wear_12 rfl k) ?_
    refine AW.lift (fun _ _ _ _ k => lv_bipush (pc := 13) (v := (7 : Int32)) X.2.2.1 X.2.2.2.1 dX1_wear_13 rfl k) ?_
    refine a_callb (pc := 15) (rs := []) (avs := [vI v2, vI (0 : Int32), vI (7 : Int32)]) Z.1 (w_X1_isIn GA v2 (0 : Int32) (7 : Int32)) (Or.inl rfl) q1812 q74 (by decide) (by decide) dX1_wear_15 hl.1 (Nat.le_of_ble_eq_true rfl) hf (ct_S X (Or.inl rfl) q1812 q74 q1813 q1811 hy_X1_isIn np_X1_isIn rfl dX1_wear_15) (fun q h he hX => a_out (unc_of Z.2.1 rfl) Z.2.2.2.1 he hX) (fun x15 h hf => ?kk15)
    refine AW.eq (g2 := F0 m 18 ls [.int x15]) rfl ?_
    refine AW.lift2 (fun _ _ _ _ k1 k2 => lv_if_eq (pc := 18) (tgt := 25) X.2.2.1 X.2.2.2.1 dX1_wear_18 rfl k1 k2) (fun c => ?_) (fun c => ?_)
    · have hf := ite_t c hf
      exact w_X1_wear_j25 GA Z v0 v1 v2   (hl.sub [0, 1, 2] rfl) hf
    · have hf := ite_f c hf
      refine AW.lift (fun _ _ _ _ k => lv_iconst (pc := 21) (v := (1 : Int32)) X.2.2.1 X.2.2.2.1 dX1_wear_21 rfl k) ?_
      refine AW.lift (fun _ _ _ _ k => lv_goto (pc := 22) (tgt := 26) X.2.2.1 X.2.2.2.1 dX1_wear_22 rfl k) ?_
      exact w_X1_wear_j26 GA Z v0 v1 v2 (1 : Int32)  (hl.sub [0, 1, 2] rfl) hf
theorem np_X0_wear : npar yX0_wear.desc 4 := by unfold npar; decide +kernel
theorem hy_X0_wear : yX0_wear.cls ≠ "java/lang/invoke/MethodHandle" ∧ yX0_wear.cls ≠ "java/lang/invoke/VarHandle" := by decide +kernel
theorem w_X0_wear (GA : GA l s0 a0 K lam) (v0 : Option Nat) (v1 : Int32) (v2 : Int32) (v3 : Option Nat) : AMet l s0 K lam yX0_wear (Cond.codeWith yX0_wear cX0_wear (5 : Nat) (Option.some ClassFile.FieldType.int) [((0 : Nat), (10 : Nat), (13 : Nat), (19 : Nat))]) 10 442 [vR v0, vI v1, vI v2, vR v3] oI (f_X0_wear K v0 v1 v2 v3) := by
  refine AMet.ofW GA.1 (plainFor_of_name (by decide +kernel)) (Nat.le_of_ble_eq_true rfl) ?_
  intro b r hf p e s m args below meth c X hr hlk hnm hnd ht ls hl
  have Z : WZ l s0 a0 K p s m c cX0_wear yX0_wear.cls 5 b { frames := 10, cells := K 0 - aX b, slots := K 1 - aW b, locals := 442 } 10 442 meth [(0, 10, 13, 19)] (some (.int)) yX0_wear := ⟨⟨X, GA.2.1, GA.2.2.1, rfl, rfl, Nat.le_refl _, Nat.le_refl _⟩, ht, hr, hlk, hnm, hnd⟩
  unfold f_X0_wear at hf
  clear hr hlk hnm hnd ht
  refine a_aload_n (pc := 0) X dX0_wear_0 rfl hl 3 rfl ?_
  refine AW.lift (fun _ _ _ _ k => lv_iconst (pc := 1) (v := (0 : Int32)) X.2.2.1 X.2.2.2.1 dX0_wear_1 rfl k) ?_
  refine a_aload_n (pc := 2) X dX0_wear_2 rfl hl 0 rfl ?_
  refine a_iload_n (pc := 3) X dX0_wear_3 rfl hl 1 rfl ?_
  refine a_iload_n (pc := 4) X dX0_wear_4 rfl hl 2 rfl ?_
  obtain ⟨a5, rfl, ⟨hk, hf⟩ | ⟨-, hf⟩⟩ := dv_tsome hf
  rotate_left
  · exact fl_tnone hf
  refine a_callt (pc := 5) (rs := [vI (0 : Int32), vR v3]) (avs := [vR (some a5), vI v1, vI v2]) Z.1 (w_X1_wear GA (some a5) v1 v2) (Or.inl rfl) q1950 q74 (by decide) (by decide) dX0_wear_5 hl.1 (Nat.le_of_ble_eq_true rfl) hf (ct_V hk ⟨by decide, by decide⟩ X (Or.inl rfl) q1950 q1947 q1948 q1949 hy_X1_wear np_X1_wear rfl dX0_wear_5) (fun q h hf hX => ?hx5) (fun x5 h hf => ?kk5)
  case hx5 =>
    rcases ctc_some hf with ⟨hy, hf⟩ | ⟨hn0, hf⟩
    · refine a_catchH (st := 0) (en := 10) (hp := 13) (ct := 19) (pre := []) (suf := []) X hX Z.2.1 rfl (fun z hz => nomatch hz) (by decide) (Or.inr ⟨by decide, _, gw X.1 X.2.1 q1786, (cs_X19 GA) _ hy⟩) (AW.eq (g2 := F0 m 13 ls [va_rf (some q)]) rfl ?_)
      refine a_astore (pc := 13) X dX0_wear_13 hl (by decide) (lv' := [(4, vR (some q)), (0, vR (some a5)), (1, vI v1), (2, vI v2), (3, vR v3)]) rfl (fun ls hl => ?_)
      refine AW.lift (fun _ _ _ _ k => lv_iconst (pc := 15) (v := (1 : Int32)) X.2.2.1 X.2.2.2.1 dX0_wear_15 rfl k) ?_
      exact a_ireturn X Z.2.2.1 Z.2.2.2.1 dX0_wear_16 hf
    · skip
      exact a_outH X Z.2.1 (by intro z hz; simp only [List.mem_cons, List.not_mem_nil, or_false] at hz; rcases hz with rfl <;> first | exact Or.inl (by decide) | exact Or.inr ⟨by decide, _, gw X.1 X.2.1 q1786, (nc_12_13_14_16_17_18_20_21_java_lang_IndexOutOfBoundsException GA _ (by simpa using hn0)).2.2⟩) Z.2.2.2.1 (th_eq hf) hX
  refine AW.eq (g2 := F0 m 8 ls [.int x5, .int (0 : Int32), va_rf v3]) rfl ?_
  refine AW.lift (fun _ _ _ _ k => lv_i2l (pc := 8) X.2.2.1 X.2.2.2.1 dX0_wear_8 rfl k) ?_
  refine a_lastore (pc := 9) X dX0_wear_9 hf (fun h hf => ?_)
  refine AW.lift (fun _ _ _ _ k => lv_goto (pc := 10) (tgt := 17) X.2.2.1 X.2.2.2.1 dX0_wear_10 rfl k) ?_
  refine AW.lift (fun _ _ _ _ k => lv_iconst (pc := 17) (v := (0 : Int32)) X.2.2.1 X.2.2.2.1 dX0_wear_17 rfl k) ?_
  exact a_ireturn X Z.2.2.1 Z.2.2.2.1 dX0_wear_18 hf
theorem w_X4_wear_j39 {r : Except Nat (Int32) × AH} (GA : GA l s0 a0 K lam) (Z : WZ l s0 a0 K p s m c cX4_wear yX4_wear.cls 3 b R 2 46 meth [] (some (.int)) yX4_wear) (v0 : Option Nat)   {h : AH} {ls : Array Slot} (hl : LV ls 3 [(0, vR v0)]) (hf : f_X4_wear_j39 K v0 h = some r) : AW s0 K lam p l e R s m args below meth c (AQ s0 K lam below oI b r s) b h (F0 m 39 ls []) := by
  unfold f_X4_wear_j39 at hf
  have X := Z.1.1
  refine a_aload_n (pc := 39) X dX4_wear_39 rfl hl 0 rfl ?_
  refine AW.lift (fun _ _ _ _ k => lv_iconst (pc := 40) (v := (1 : Int32)) X.2.2.1 X.2.2.2.1 dX4_wear_40 rfl k) ?_
  obtain ⟨a41, rfl, ⟨hk, hf⟩ | ⟨-, hf⟩⟩ := dv_some hf
  rotate_left
  · exact fl_none hf
  refine a_callb (pc := 41) (rs := []) (avs := [vR (some a41), vI (1 : Int32)]) Z.1 (w_X4_throwing GA (some a41) (1 : Int32)) (Or.inl rfl) q3120 q86 (by decide) (by decide) dX4_wear_41 hl.1 (Nat.le_of_ble_eq_true rfl) hf (ct_V hk ⟨by decide, by decide⟩ X (Or.inl rfl) q3120 q3117 q3119 pv_30 hy_X4_throwing np_X4_throwing rfl dX4_wear_41) (fun q h he hX => a_out (unc_of Z.2.1 rfl) Z.2.2.2.1 he hX) (fun x41 h hf => ?kk41)
  refine AW.eq (g2 := F0 m 44 ls [.int x41]) rfl ?_
  exact a_ireturn X Z.2.2.1 Z.2.2.2.1 dX4_wear_44 hf
theorem np_X4_wear : npar yX4_wear.desc 2 := by unfold npar; decide +kernel
theorem hy_X4_wear : yX4_wear.cls ≠ "java/lang/invoke/MethodHandle" ∧ yX4_wear.cls ≠ "java/lang/invoke/VarHandle" := by decide +kernel
theorem w_X4_wear (GA : GA l s0 a0 K lam) (v0 : Option Nat) (v1 : Int32) (v2 : Int32) : AMet l s0 K lam yX4_wear (Cond.code yX4_wear cX4_wear (3 : Nat) (Option.some ClassFile.FieldType.int)) 2 46 [vR v0, vI v1, vI v2] oI (f_X4_wear K v0 v1 v2) := by
  refine AMet.of GA.1 (plainFor_of_name (by decide +kernel)) (Nat.le_of_ble_eq_true rfl) ?_
  intro b r hf p e s m args below meth c X hr hlk hnm hnd ht ls hl
  have Z : WZ l s0 a0 K p s m c cX4_wear yX4_wear.cls 3 b { frames := 2, cells := K 0 - aX b, slots := K 1 - aW b, locals := 46 } 2 46 meth [] (some (.int)) yX4_wear := ⟨⟨X, GA.2.1, GA.2.2.1, rfl, rfl, Nat.le_refl _, Nat.le_refl _⟩, tab_nil ht, hr, hlk, hnm, hnd⟩
  unfold f_X4_wear at hf
  clear hr hlk hnm hnd ht
  refine a_aload_n (pc := 0) X dX4_wear_0 rfl hl 0 rfl ?_
  refine AW.lift (fun _ _ _ _ k => lv_iconst (pc := 1) (v := (0 : Int32)) X.2.2.1 X.2.2.2.1 dX4_wear_1 rfl k) ?_
  refine a_put (pc := 2) (φ := 107) X Z.1.2.1 Z.1.2.2.1 (gw X.1 X.2.1 q3032) (fun _ q => q) (by decide) rfl rfl dX4_wear_2 hf (fun h hf => ?_)
  refine a_aload_n (pc := 5) X dX4_wear_5 rfl hl 0 rfl ?_
  refine a_iload_n (pc := 6) X dX4_wear_6 rfl hl 1 rfl ?_
  obtain ⟨a7, rfl, ⟨hk, hf⟩ | ⟨-, hf⟩⟩ := dv_some hf
  rotate_left
  · exact fl_none hf
  refine a_callb (pc := 7) (rs := []) (avs := [vR (some a7), vI v1]) Z.1 (w_X4_isMat GA (some a7) v1) (Or.inl rfl) q3139 q86 (by decide) (by decide) dX4_wear_7 hl.1 (Nat.le_of_ble_eq_true rfl) hf (ct_V hk ⟨by decide, by decide⟩ X (Or.inl rfl) q3139 q3136 q3138 pv_33 hy_X4_isMat np_X4_isMat rfl dX4_wear_7) (fun q h he hX => a_out (unc_of Z.2.1 rfl) Z.2.2.2.1 he hX) (fun x7 h hf => ?kk7)
  refine AW.eq (g2 := F0 m 10 ls [.int x7]) rfl ?_
  refine AW.lift2 (fun _ _ _ _ k1 k2 => lv_if_eq (pc := 10) (tgt := 39) X.2.2.1 X.2.2.2.1 dX4_wear_10 rfl k1 k2) (fun c => ?_) (fun c => ?_)
  · have hf := ite_t c hf
    exact w_X4_wear_j39 GA Z (some a7)   (hl.sub [0] rfl) hf
  · have hf := ite_f c hf
    refine a_iload_n (pc := 13) X dX4_wear_13 rfl hl 2 rfl ?_
    refine AW.lift (fun _ _ _ _ k => lv_i2l (pc := 14) X.2.2.1 X.2.2.2.1 dX4_wear_14 rfl k) ?_
    refine AW.lift (fun _ _ _ _ k => lv_lconst (pc := 15) (v := (0 : Int64)) X.2.2.1 X.2.2.2.1 dX4_wear_15 rfl k) ?_
    refine AW.lift (fun _ _ _ _ k => lv_ldc2 (pc := 16) X.2.2.1 X.2.2.2.1 X.2.2.2.2.1 (gw X.1 X.2.1 q3143) dX4_wear_16 k) ?_
    refine a_callb (pc := 19) (rs := []) (avs := [vJ (v2.toInt64), vJ (0 : Int64), vJ (7 : Int64)]) Z.1 (w_X4_in GA (v2.toInt64) (0 : Int64) (7 : Int64)) (Or.inl rfl) q3142 q86 (by decide) (by decide) dX4_wear_19 hl.1 (Nat.le_of_ble_eq_true rfl) hf (ct_S X (Or.inl rfl) q3142 q86 q3140 q3141 hy_X4_in np_X4_in rfl dX4_wear_19) (fun q h he hX => a_out (unc_of Z.2.1 rfl) Z.2.2.2.1 he hX) (fun x19 h hf => ?kk19)
    refine AW.eq (g2 := F0 m 22 ls [.int x19]) rfl ?_
    refine AW.lift2 (fun _ _ _ _ k1 k2 => lv_if_eq (pc := 22) (tgt := 39) X.2.2.1 X.2.2.2.1 dX4_wear_22 rfl k1 k2) (fun c => ?_) (fun c => ?_)
    · have hf := ite_t c hf
      exact w_X4_wear_j39 GA Z (some a7)   (hl.sub [0] rfl) hf
    · have hf := ite_f c hf
      refine a_aload_n (pc := 25) X dX4_wear_25 rfl hl 0 rfl ?_
      refine a_get (pc := 26) (φ := 100) pR_t X Z.1.2.1 (gw X.1 X.2.1 q3025) (fun _ q => q) (by decide) dX4_wear_26 hf (fun x26 hf => ?_)
      refine a_iload_n (pc := 29) X dX4_wear_29 rfl hl 1 rfl ?_
      refine a_callb (pc := 30) (rs := [vR x26]) (avs := [vI v1]) Z.1 (w_X4_of GA v1) (Or.inl rfl) q3123 q86 (by decide) (by decide) dX4_wear_30 hl.1 (Nat.le_of_ble_eq_true rfl) hf (ct_S X (Or.inl rfl) q3123 q86 q3121 q3122 hy_X4_of np_X4_of rfl dX4_wear_30) (fun q h he hX => a_out (unc_of Z.2.1 rfl) Z.2.2.2.1 he hX) (fun x30 h hf => ?kk30)
      refine AW.eq (g2 := F0 m 33 ls [.int x30, va_rf x26]) rfl ?_
      refine a_iload_n (pc := 33) X dX4_wear_33 rfl hl 2 rfl ?_
      refine AW.lift (fun _ _ _ _ k => lv_iadd (pc := 34) X.2.2.1 X.2.2.2.1 dX4_wear_34 k) ?_
      refine a_iaload (pc := 35) X dX4_wear_35 hf (fun x35 hf => ?_)
      refine AW.lift (fun _ _ _ _ k => lv_goto (pc := 36) (tgt := 44) X.2.2.1 X.2.2.2.1 dX4_wear_36 rfl k) ?_
      exact a_ireturn X Z.2.2.1 Z.2.2.2.1 dX4_wear_44 hf
theorem np_X1_bearsAgain : npar yX1_bearsAgain.desc 1 := by unfold npar; decide +kernel
theorem hy_X1_bearsAgain : yX1_bearsAgain.cls ≠ "java/lang/invoke/MethodHandle" ∧ yX1_bearsAgain.cls ≠ "java/lang/invoke/VarHandle" := by decide +kernel
theorem w_X1_bearsAgain (GA : GA l s0 a0 K lam) (v0 : Option Nat) (v1 : Int32) : AMet l s0 K lam yX1_bearsAgain (Cond.code yX1_bearsAgain cX1_bearsAgain (2 : Nat) (Option.some ClassFile.FieldType.int)) 10 441 [vR v0, vI v1] oI (f_X1_bearsAgain K v0 v1) := by
  refine AMet.of GA.1 (plainFor_of_name (by decide +kernel)) (Nat.le_of_ble_eq_true rfl) ?_
  intro b r hf p e s m args below meth c X hr hlk hnm hnd ht ls hl
  have Z : WZ l s0 a0 K p s m c cX1_bearsAgain yX1_bearsAgain.cls 2 b { frames := 10, cells := K 0 - aX b, slots := K 1 - aW b, locals := 441 } 10 441 meth [] (some (.int)) yX1_bearsAgain := ⟨⟨X, GA.2.1, GA.2.2.1, rfl, rfl, Nat.le_refl _, Nat.le_refl _⟩, tab_nil ht, hr, hlk, hnm, hnd⟩
  unfold f_X1_bearsAgain at hf
  clear hr hlk hnm hnd ht
  refine AW.lift (fun _ _ _ _ k => lv_bipush (pc := 0) (v := (96 : Int32)) X.2.2.1 X.2.2.2.1 dX1_bearsAgain_0 rfl k) ?_
  refine AW.lift (fun _ _ _ _ k => lv_bipush (pc := 2) (v := (12 : Int32)) X.2.2.1 X.2.2.2.1 dX1_bearsAgain_2 rfl k) ?_
  refine a_aload_n (pc := 4) X dX1_bearsAgain_4 rfl hl 0 rfl ?_
  refine a_iload_n (pc := 5) X dX1_bearsAgain_5 rfl hl 1 rfl ?_
  obtain ⟨a6, rfl, ⟨hk, hf⟩ | ⟨-, hf⟩⟩ := dv_some hf
  rotate_left
  · exact fl_none hf
  refine a_callb (pc := 6) (rs := [vI (12 : Int32), vI (96 : Int32)]) (avs := [vR (some a6), vI v1]) Z.1 (w_X1_matAt GA (some a6) v1) (Or.inl rfl) q1861 q74 (by decide) (by decide) dX1_bearsAgain_6 hl.1 (Nat.le_of_ble_eq_true rfl) hf (ct_V hk ⟨by decide, by decide⟩ X (Or.inl rfl) q1861 q1858 q1860 pv_6 hy_X1_matAt np_X1_matAt rfl dX1_bearsAgain_6) (fun q h he hX => a_out (unc_of Z.2.1 rfl) Z.2.2.2.1 he hX) (fun x6 h hf => ?kk6)
  refine AW.eq (g2 := F0 m 9 ls [va_rf x6, .int (12 : Int32), .int (96 : Int32)]) rfl ?_
  obtain ⟨a9, rfl, ⟨hk, hf⟩ | ⟨-, hf⟩⟩ := dv_some hf
  rotate_left
  · exact fl_none hf
  refine a_callb (pc := 9) (rs := [vI (12 : Int32), vI (96 : Int32)]) (avs := [vR (some a9)]) Z.1 (w_X7_broken GA (some a9)) (Or.inl rfl) q1890 q91 (by decide) (by decide) dX1_bearsAgain_9 hl.1 (Nat.le_of_ble_eq_true rfl) hf (ct_V hk ⟨by decide, by decide⟩ X (Or.inl rfl) q1890 q1887 q1888 q1889 hy_X7_broken np_X7_broken rfl dX1_bearsAgain_9) (fun q h he hX => a_out (unc_of Z.2.1 rfl) Z.2.2.2.1 he hX) (fun x9 h hf => ?kk9)
  refine AW.eq (g2 := F0 m 12 ls [.int x9, .int (12 : Int32), .int (96 : Int32)]) rfl ?_
  refine AW.lift (fun _ _ _ _ k => lv_imul (pc := 12) X.2.2.1 X.2.2.2.1 dX1_bearsAgain_12 k) ?_
  refine AW.lift (fun _ _ _ _ k => lv_isub (pc := 13) X.2.2.1 X.2.2.2.1 dX1_bearsAgain_13 k) ?_
  exact a_ireturn X Z.2.2.1 Z.2.2.2.1 dX1_bearsAgain_14 hf
theorem np_X0_bearsAgain : npar yX0_bearsAgain.desc 3 := by unfold npar; decide +kernel
theorem hy_X0_bearsAgain : yX0_bearsAgain.cls ≠ "java/lang/invoke/MethodHandle" ∧ yX0_bearsAgain.cls ≠ "java/lang/invoke/VarHandle" := by decide +kernel
theorem w_X0_bearsAgain (GA : GA l s0 a0 K lam) (v0 : Option Nat) (v1 : Int32) (v2 : Option Nat) : AMet l s0 K lam yX0_bearsAgain (Cond.codeWith yX0_bearsAgain cX0_bearsAgain (4 : Nat) (Option.some ClassFile.FieldType.int) [((0 : Nat), (9 : Nat), (12 : Nat), (19 : Nat))]) 11 462 [vR v0, vI v1, vR v2] oI (f_X0_bearsAgain K v0 v1 v2) := by
  refine AMet.ofW GA.1 (plainFor_of_name (by decide +kernel)) (Nat.le_of_ble_eq_true rfl) ?_
  intro b r hf p e s m args below meth c X hr hlk hnm hnd ht ls hl
  have Z : WZ l s0 a0 K p s m c cX0_bearsAgain yX0_bearsAgain.cls 4 b { frames := 11, cells := K 0 - aX b, slots := K 1 - aW b, locals := 462 } 11 462 meth [(0, 9, 12, 19)] (some (.int)) yX0_bearsAgain := ⟨⟨X, GA.2.1, GA.2.2.1, rfl, rfl, Nat.le_refl _, Nat.le_refl _⟩, ht, hr, hlk, hnm, hnd⟩
  unfold f_X0_bearsAgain at hf
  clear hr hlk hnm hnd ht
  refine a_aload_n (pc := 0) X dX0_bearsAgain_0 rfl hl 2 rfl ?_
  refine AW.lift (fun _ _ _ _ k => lv_iconst (pc := 1) (v := (0 : Int32)) X.2.2.1 X.2.2.2.1 dX0_bearsAgain_1 rfl k) ?_
  refine a_aload_n (pc := 2) X dX0_bearsAgain_2 rfl hl 0 rfl ?_
  refine a_iload_n (pc := 3) X dX0_bearsAgain_3 rfl hl 1 rfl ?_
  obtain ⟨a4, rfl, ⟨hk, hf⟩ | ⟨-, hf⟩⟩ := dv_tsome hf
  rotate_left
  · exact fl_tnone hf
  refine a_callt (pc := 4) (rs := [vI (0 : Int32), vR v2]) (avs := [vR (some a4), vI v1]) Z.1 (w_X1_bearsAgain GA (some a4) v1) (Or.inl rfl) q1957 q74 (by decide) (by decide) dX0_bearsAgain_4 hl.1 (Nat.le_of_ble_eq_true rfl) hf (ct_V hk ⟨by decide, by decide⟩ X (Or.inl rfl) q1957 q1954 q1955 q1956 hy_X1_bearsAgain np_X1_bearsAgain rfl dX0_bearsAgain_4) (fun q h hf hX => ?hx4) (fun x4 h hf => ?kk4)
  case hx4 =>
    rcases ctc_some hf with ⟨hy, hf⟩ | ⟨hn0, hf⟩
    · refine a_catchH (st := 0) (en := 9) (hp := 12) (ct := 19) (pre := []) (suf := []) X hX Z.2.1 rfl (fun z hz => nomatch hz) (by decide) (Or.inr ⟨by decide, _, gw X.1 X.2.1 q1786, (cs_X19 GA) _ hy⟩) (AW.eq (g2 := F0 m 12 ls [va_rf (some q)]) rfl ?_)
      refine a_astore_n (pc := 12) X dX0_bearsAgain_12 rfl hl (by decide) (lv' := [(3, vR (some q)), (0, vR (some a4)), (1, vI v1), (2, vR v2)]) rfl (fun ls hl => ?_)
      refine AW.lift (fun _ _ _ _ k => lv_iconst (pc := 13) (v := (1 : Int32)) X.2.2.1 X.2.2.2.1 dX0_bearsAgain_13 rfl k) ?_
      exact a_ireturn X Z.2.2.1 Z.2.2.2.1 dX0_bearsAgain_14 hf
    · skip
      exact a_outH X Z.2.1 (by intro z hz; simp only [List.mem_cons, List.not_mem_nil, or_false] at hz; rcases hz with rfl <;> first | exact Or.inl (by decide) | exact Or.inr ⟨by decide, _, gw X.1 X.2.1 q1786, (nc_12_13_14_16_17_18_20_21_java_lang_IndexOutOfBoundsException GA _ (by simpa using hn0)).2.2⟩) Z.2.2.2.1 (th_eq hf) hX
  refine AW.eq (g2 := F0 m 7 ls [.int x4, .int (0 : Int32), va_rf v2]) rfl ?_
  refine AW.lift (fun _ _ _ _ k => lv_i2l (pc := 7) X.2.2.1 X.2.2.2.1 dX0_bearsAgain_7 rfl k) ?_
  refine a_lastore (pc := 8) X dX0_bearsAgain_8 hf (fun h hf => ?_)
  refine AW.lift (fun _ _ _ _ k => lv_goto (pc := 9) (tgt := 15) X.2.2.1 X.2.2.2.1 dX0_bearsAgain_9 rfl k) ?_
  refine AW.lift (fun _ _ _ _ k => lv_iconst (pc := 15) (v := (0 : Int32)) X.2.2.1 X.2.2.2.1 dX0_bearsAgain_15 rfl k) ?_
  exact a_ireturn X Z.2.2.1 Z.2.2.2.1 dX0_bearsAgain_16 hf
theorem np_X4_bearsAgain : npar yX4_bearsAgain.desc 1 := by unfold npar; decide +kernel
theorem hy_X4_bearsAgain : yX4_bearsAgain.cls ≠ "java/lang/invoke/MethodHandle" ∧ yX4_bearsAgain.cls ≠ "java/lang/invoke/VarHandle" := by decide +kernel
theorem w_X4_bearsAgain (GA : GA l s0 a0 K lam) (v0 : Option Nat) (v1 : Int32) : AMet l s0 K lam yX4_bearsAgain (Cond.code yX4_bearsAgain cX4_bearsAgain (2 : Nat) (Option.some ClassFile.FieldType.int)) 3 64 [vR v0, vI v1] oI (f_X4_bearsAgain K v0 v1) := by
  refine AMet.of GA.1 (plainFor_of_name (by decide +kernel)) (Nat.le_of_ble_eq_true rfl) ?_
  intro b r hf p e s m args below meth c X hr hlk hnm hnd ht ls hl
  have Z : WZ l s0 a0 K p s m c cX4_bearsAgain yX4_bearsAgain.cls 2 b { frames := 3, cells := K 0 - aX b, slots := K 1 - aW b, locals := 64 } 3 64 meth [] (some (.int)) yX4_bearsAgain := ⟨⟨X, GA.2.1, GA.2.2.1, rfl, rfl, Nat.le_refl _, Nat.le_refl _⟩, tab_nil ht, hr, hlk, hnm, hnd⟩
  unfold f_X4_bearsAgain at hf
  clear hr hlk hnm hnd ht
  refine a_aload_n (pc := 0) X dX4_bearsAgain_0 rfl hl 0 rfl ?_
  refine AW.lift (fun _ _ _ _ k => lv_iconst (pc := 1) (v := (0 : Int32)) X.2.2.1 X.2.2.2.1 dX4_bearsAgain_1 rfl k) ?_
  refine a_put (pc := 2) (φ := 107) X Z.1.2.1 Z.1.2.2.1 (gw X.1 X.2.1 q3032) (fun _ q => q) (by decide) rfl rfl dX4_bearsAgain_2 hf (fun h hf => ?_)
  refine a_aload_n (pc := 5) X dX4_bearsAgain_5 rfl hl 0 rfl ?_
  refine a_iload_n (pc := 6) X dX4_bearsAgain_6 rfl hl 1 rfl ?_
  obtain ⟨a7, rfl, ⟨hk, hf⟩ | ⟨-, hf⟩⟩ := dv_some hf
  rotate_left
  · exact fl_none hf
  refine a_callb (pc := 7) (rs := []) (avs := [vR (some a7), vI v1]) Z.1 (w_X4_isMat GA (some a7) v1) (Or.inl rfl) q3139 q86 (by decide) (by decide) dX4_bearsAgain_7 hl.1 (Nat.le_of_ble_eq_true rfl) hf (ct_V hk ⟨by decide, by decide⟩ X (Or.inl rfl) q3139 q3136 q3138 pv_33 hy_X4_isMat np_X4_isMat rfl dX4_bearsAgain_7) (fun q h he hX => a_out (unc_of Z.2.1 rfl) Z.2.2.2.1 he hX) (fun x7 h hf => ?kk7)
  refine AW.eq (g2 := F0 m 10 ls [.int x7]) rfl ?_
  refine AW.lift2 (fun _ _ _ _ k1 k2 => lv_if_eq (pc := 10) (tgt := 21) X.2.2.1 X.2.2.2.1 dX4_bearsAgain_10 rfl k1 k2) (fun c => ?_) (fun c => ?_)
  · have hf := ite_t c hf
    refine a_aload_n (pc := 21) X dX4_bearsAgain_21 rfl hl 0 rfl ?_
    refine AW.lift (fun _ _ _ _ k => lv_iconst (pc := 22) (v := (1 : Int32)) X.2.2.1 X.2.2.2.1 dX4_bearsAgain_22 rfl k) ?_
    rcases dv_someS hf with ⟨hk, hf⟩ | ⟨-, hf⟩
    rotate_left
    · exact fl_none hf
    refine a_callb (pc := 23) (rs := []) (avs := [vR (some a7), vI (1 : Int32)]) Z.1 (w_X4_throwing GA (some a7) (1 : Int32)) (Or.inl rfl) q3120 q86 (by decide) (by decide) dX4_bearsAgain_23 hl.1 (Nat.le_of_ble_eq_true rfl) hf (ct_V hk ⟨by decide, by decide⟩ X (Or.inl rfl) q3120 q3117 q3119 pv_30 hy_X4_throwing np_X4_throwing rfl dX4_bearsAgain_23) (fun q h he hX => a_out (unc_of Z.2.1 rfl) Z.2.2.2.1 he hX) (fun x23 h hf => ?kk23)
    refine AW.eq (g2 := F0 m 26 ls [.int x23]) rfl ?_
    exact a_ireturn X Z.2.2.1 Z.2.2.2.1 dX4_bearsAgain_26 hf
  · have hf := ite_f c hf
    refine a_aload_n (pc := 13) X dX4_bearsAgain_13 rfl hl 0 rfl ?_
    refine a_iload_n (pc := 14) X dX4_bearsAgain_14 rfl hl 1 rfl ?_
    rcases dv_someS hf with ⟨hk, hf⟩ | ⟨-, hf⟩
    rotate_left
    · exact fl_none hf
    refine a_callb (pc := 15) (rs := []) (avs := [vR (some a7), vI v1]) Z.1 (w_X4_bears GA (some a7) v1) (Or.inl rfl) q3158 q86 (by decide) (by decide) dX4_bearsAgain_15 hl.1 (Nat.le_of_ble_eq_true rfl) hf (ct_V hk ⟨by decide, by decide⟩ X (Or.inl rfl) q3158 q3155 q3157 pv_36 hy_X4_bears np_X4_bears rfl dX4_bearsAgain_15) (fun q h he hX => a_out (unc_of Z.2.1 rfl) Z.2.2.2.1 he hX) (fun x15 h hf => ?kk15)
    refine AW.eq (g2 := F0 m 18 ls [.int x15]) rfl ?_
    refine AW.lift (fun _ _ _ _ k => lv_goto (pc := 18) (tgt := 26) X.2.2.1 X.2.2.2.1 dX4_bearsAgain_18 rfl k) ?_
    exact a_ireturn X Z.2.2.1 Z.2.2.2.1 dX4_bearsAgain_26 hf
theorem np_X1_checkElement : npar yX1_checkElement.desc 1 := by unfold npar; decide +kernel
theorem hy_X1_checkElement : yX1_checkElement.cls ≠ "java/lang/invoke/MethodHandle" ∧ yX1_checkElement.cls ≠ "java/lang/invoke/VarHandle" := by decide +kernel
theorem w_X1_checkElement (GA : GA l s0 a0 K lam) (v0 : Int32) : AMet l s0 K lam yX1_checkElement (Cond.code yX1_checkElement cX1_checkElement (1 : Nat) (Option.none : Option ClassFile.FieldType)) 8 400 [vI v0] oV (f_X1_checkElement K v0) := by
  refine AMet.of GA.1 (plainFor_of_name (by decide +kernel)) (Nat.le_of_ble_eq_true rfl) ?_
  intro b r hf p e s m args below meth c X hr hlk hnm hnd ht ls hl
  have Z : WZ l s0 a0 K p s m c cX1_checkElement yX1_checkElement.cls 1 b { frames := 8, cells := K 0 - aX b, slots := K 1 - aW b, locals := 400 } 8 400 meth [] none yX1_checkElement := ⟨⟨X, GA.2.1, GA.2.2.1, rfl, rfl, Nat.le_refl _, Nat.le_refl _⟩, tab_nil ht, hr, hlk, hnm, hnd⟩
  unfold f_X1_checkElement at hf
  clear hr hlk hnm hnd ht
  refine a_iload_n (pc := 0) X dX1_checkElement_0 rfl hl 0 rfl ?_
  refine AW.lift2 (fun _ _ _ _ k1 k2 => lv_if_ne (pc := 1) (tgt := 12) X.2.2.1 X.2.2.2.1 dX1_checkElement_1 rfl k2 k1) (fun c => ?_) (fun c => ?_)
  · have hf := ite_t c hf
    refine a_new (pc := 4) (cK := 20) (n := 6) X Z.1.2.1 Z.1.2.2.1 Z.1.2.2.2.1 Z.1.2.2.2.2.1 ⟨by decide, by decide, by decide⟩ (gw X.1 X.2.1 q1969) (gw X.1 X.2.1 q403) (gw X.1 X.2.1 q98) dX1_checkElement_4 hf (fun x4 h hf => ?_)
    refine AW.lift (fun _ _ _ _ k => lv_dup (pc := 7) X.2.2.1 X.2.2.2.1 dX1_checkElement_7 (cat_rf _) k) ?_
    refine a_callb (pc := 8) (rs := [vR (some x4)]) (avs := [vR (some x4)]) Z.1 (w_J16_init GA (some x4)) (Or.inl rfl) q453 q98 (by decide) (by decide) dX1_checkElement_8 hl.1 (Nat.le_of_ble_eq_true rfl) hf (ct_I X q453 q1970 q452 rfl hy_J16_init np_J16_init rfl dX1_checkElement_8) (fun q h he hX => a_out (unc_of Z.2.1 rfl) Z.2.2.2.1 he hX) (fun _ h hf => ?kk8)
    refine AW.eq (g2 := F0 m 11 ls [va_rf (some x4)]) rfl ?_
    exact a_athrow X dX1_checkElement_11 hf (fun q e he hX => a_out (unc_of Z.2.1 rfl) Z.2.2.2.1 he hX)
  · have hf := ite_f c hf
    exact a_return X Z.2.2.1 Z.2.2.2.1 dX1_checkElement_12 hf
theorem w_X2_lasts_j84 {r : Except Nat (Int32) × AH} (GA : GA l s0 a0 K lam) (Z : WZ l s0 a0 K p s m c cX2_lasts yX2_lasts.cls 7 b R 11 3109 meth [] (some (.int)) yX2_lasts) (v0 : Option Nat) (v1 : Int32) (v2 : Option Nat) (v3 : Int32) (v4 : Int32)  (rc24 : Int32 → AM (Int32)) (hrc24 : ∀ (v4 : Int32) (h : AH) (ls : Array Slot), LV ls 7 [(0, vR v0), (1, vI v1), (2, vR v2), (3, vI v3), (4, vI v4)] → rc24 v4 h = some r → AW s0 K lam p l e R s m args below meth c (AQ s0 K lam below oI b r s) b h (F0 m 24 ls [])) {h : AH} {ls : Array Slot} (hl : LV ls 7 [(0, vR v0), (1, vI v1), (2, vR v2), (3, vI v3), (4, vI v4)]) (hf : f_X2_lasts_j84 K rc24 v0 v1 v2 v3 v4 h = some r) : AW s0 K lam p l e R s m args below meth c (AQ s0 K lam below oI b r s) b h (F0 m 84 ls []) := by
  unfold f_X2_lasts_j84 at hf
  have X := Z.1.1
  refine a_iinc (pc := 84) (v := (v4 + (1 : Int32))) X dX2_lasts_84 hl (k := 4) rfl rfl (by decide) (lv' := [(4, vI (v4 + (1 : Int32))), (0, vR v0), (1, vI v1), (2, vR v2), (3, vI v3)]) rfl (fun ls hl => ?_)
  refine AW.lift (fun _ _ _ _ k => lv_goto (pc := 87) (tgt := 24) X.2.2.1 X.2.2.2.1 dX2_lasts_87 rfl k) ?_
  exact hrc24 (v4 + (1 : Int32)) _ _ (hl.sub [1, 2, 3, 4, 0] rfl) hf
theorem w_X2_lasts_j81 {r : Except Nat (Int32) × AH} (GA : GA l s0 a0 K lam) (Z : WZ l s0 a0 K p s m c cX2_lasts yX2_lasts.cls 7 b R 11 3109 meth [] (some (.int)) yX2_lasts) (v0 : Option Nat) (v1 : Int32) (v2 : Option Nat) (v3 : Int32) (v4 : Int32) (v5 : Option Nat)  (rc24 : Int32 → AM (Int32)) (hrc24 : ∀ (v4 : Int32) (h : AH) (ls : Array Slot), LV ls 7 [(0, vR v0), (1, vI v1), (2, vR v2), (3, vI v3), (4, vI v4)] → rc24 v4 h = some r → AW s0 K lam p l e R s m args below meth c (AQ s0 K lam below oI b r s) b h (F0 m 24 ls [])) (rc41 : AM (Int32)) (hrc41 : ∀  (h : AH) (ls : Array Slot), LV ls 7 [(0, vR v0), (1, vI v1), (2, vR v2), (3, vI v3), (4, vI v4), (5, vR v5)] → rc41 h = some r → AW s0 K lam p l e R s m args below meth c (AQ s0 K lam below oI b r s) b h (F0 m 41 ls [])) {h : AH} {ls : Array Slot} (hl : LV ls 7 [(0, vR v0), (1, vI v1), (2, vR v2), (3, vI v3), (4, vI v4), (5, vR v5)]) (hf : f_X2_lasts_j81 K rc24 rc41 v0 v1 v2 v3 v4 v5 h = some r) : AW s0 K lam p l e R s m args below meth c (AQ s0 K lam below oI b r s) b h (F0 m 81 ls []) := by
  unfold f_X2_lasts_j81 at hf
  have X := Z.1.1
  refine AW.lift (fun _ _ _ _ k => lv_goto (pc := 81) (tgt := 41) X.2.2.1 X.2.2.2.1 dX2_lasts_81 rfl k) ?_
  exact hrc41  _ _ (hl.sub [0, 1, 2, 3, 4, 5] rfl) hf
theorem w_X2_lasts_b41 {r : Except Nat (Int32) × AH} (GA : GA l s0 a0 K lam) (Z : WZ l s0 a0 K p s m c cX2_lasts yX2_lasts.cls 7 b R 11 3109 meth [] (some (.int)) yX2_lasts) (v0 : Option Nat) (v1 : Int32) (v2 : Option Nat) (v3 : Int32) (v4 : Int32) (v5 : Option Nat)  (rc24 : Int32 → AM (Int32)) (hrc24 : ∀ (v4 : Int32) (h : AH) (ls : Array Slot), LV ls 7 [(0, vR v0), (1, vI v1), (2, vR v2), (3, vI v3), (4, vI v4)] → rc24 v4 h = some r → AW s0 K lam p l e R s m args below meth c (AQ s0 K lam below oI b r s) b h (F0 m 24 ls [])) (rc41 : AM (Int32)) (hrc41 : ∀  (h : AH) (ls : Array Slot), LV ls 7 [(0, vR v0), (1, vI v1), (2, vR v2), (3, vI v3), (4, vI v4), (5, vR v5)] → rc41 h = some r → AW s0 K lam p l e R s m args below meth c (AQ s0 K lam below oI b r s) b h (F0 m 41 ls [])) {h : AH} {ls : Array Slot} (hl : LV ls 7 [(0, vR v0), (1, vI v1), (2, vR v2), (3, vI v3), (4, vI v4), (5, vR v5)]) (hf : f_X2_lasts_b41 K rc24 rc41 v0 v1 v2 v3 v4 v5 h = some r) : AW s0 K lam p l e R s m args below meth c (AQ s0 K lam below oI b r s) b h (F0 m 41 ls []) := by
  unfold f_X2_lasts_b41 at hf
  have X := Z.1.1
  refine a_aload (pc := 41) X dX2_lasts_41 hl 5 rfl ?_
  obtain ⟨a43, rfl, ⟨hk, hf⟩ | ⟨-, hf⟩⟩ := dv_some hf
  rotate_left
  · exact fl_none hf
  refine a_callb (pc := 43) (rs := []) (avs := [vR (some a43)]) Z.1 (w_J14_hasNext GA (some a43)) (Or.inl rfl) q376 q96 (by decide) (by decide) dX2_lasts_43 hl.1 (Nat.le_of_ble_eq_true rfl) hf (ct_F (x := ({ cls := "java/util/Iterator", name := "hasNext", desc := "()Z" } : MethodName)) hk ⟨by decide, by decide⟩ X (Or.inl rfl) q376 q368 (gf X.1 X.2.1 q370 rfl) (gf X.1 X.2.1 q369 rfl) (gf X.1 X.2.1 q375 rfl) (gf X.1 X.2.1 q373 rfl) (gf X.1 X.2.1 q371 rfl) q374 q372 ⟨by decide, by decide⟩ np_J14_hasNext rfl dX2_lasts_43) (fun q h he hX => a_out (unc_of Z.2.1 rfl) Z.2.2.2.1 he hX) (fun x43 h hf => ?kk43)
  refine AW.eq (g2 := F0 m 48 ls [.int x43]) rfl ?_
  refine AW.lift2 (fun _ _ _ _ k1 k2 => lv_if_eq (pc := 48) (tgt := 84) X.2.2.1 X.2.2.2.1 dX2_lasts_48 rfl k1 k2) (fun c => ?_) (fun c => ?_)
  · have hf := ite_t c hf
    exact w_X2_lasts_j84 GA Z v0 v1 v2 v3 v4  rc24 hrc24 (hl.sub [0, 1, 2, 3, 4] rfl) hf
  · have hf := ite_f c hf
    refine a_aload (pc := 51) X dX2_lasts_51 hl 5 rfl ?_
    rcases dv_someS hf with ⟨hk, hf⟩ | ⟨-, hf⟩
    rotate_left
    · exact fl_none hf
    refine a_callb (pc := 53) (rs := []) (avs := [vR (some a43)]) Z.1 (w_J14_next GA (some a43)) (Or.inl rfl) q397 q96 (by decide) (by decide) dX2_lasts_53 hl.1 (Nat.le_of_ble_eq_true rfl) hf (ct_F (x := ({ cls := "java/util/Iterator", name := "next", desc := "()Ljava/lang/Object;" } : MethodName)) hk ⟨by decide, by decide⟩ X (Or.inl rfl) q397 q390 (gf X.1 X.2.1 q392 rfl) (gf X.1 X.2.1 q391 rfl) (gf X.1 X.2.1 q396 rfl) (gf X.1 X.2.1 q394 rfl) (gf X.1 X.2.1 q371 rfl) q395 q393 ⟨by decide, by decide⟩ np_J14_next rfl dX2_lasts_53) (fun q h he hX => a_out (unc_of Z.2.1 rfl) Z.2.2.2.1 he hX) (fun x53 h hf => ?kk53)
    refine AW.eq (g2 := F0 m 58 ls [va_rf x53]) rfl ?_
    refine a_checkcast (pc := 58) X (gw X.1 X.2.1 q899) (cs_JumpHall_Jumper GA) dX2_lasts_58 hf (fun hf => ?_)
    refine a_astore (pc := 61) X dX2_lasts_61 hl (by decide) (lv' := [(6, vR x53), (0, vR v0), (1, vI v1), (2, vR v2), (3, vI v3), (4, vI v4), (5, vR (some a43))]) rfl (fun ls hl => ?_)
    refine a_aload (pc := 63) X dX2_lasts_63 hl 0 rfl ?_
    refine a_iload_n (pc := 65) X dX2_lasts_65 rfl hl 2 rfl ?_
    obtain ⟨a66, rfl, ⟨hk, hf⟩ | ⟨-, hf⟩⟩ := dv_some hf
    rotate_left
    · exact fl_none hf
    refine a_callb (pc := 66) (rs := []) (avs := [vR (some a66), vI v1]) Z.1 (w_X8_isOn GA (some a66) v1) (Or.inl rfl) q1834 q107 (by decide) (by decide) dX2_lasts_66 hl.1 (Nat.le_of_ble_eq_true rfl) hf (ct_V hk ⟨by decide, by decide⟩ X (Or.inl rfl) q1834 q1831 q1832 q1833 hy_X8_isOn np_X8_isOn rfl dX2_lasts_66) (fun q h he hX => a_out (unc_of Z.2.1 rfl) Z.2.2.2.1 he hX) (fun x66 h hf => ?kk66)
    refine AW.eq (g2 := F0 m 69 ls [.int x66]) rfl ?_
    refine AW.lift2 (fun _ _ _ _ k1 k2 => lv_if_eq (pc := 69) (tgt := 81) X.2.2.1 X.2.2.2.1 dX2_lasts_69 rfl k1 k2) (fun c => ?_) (fun c => ?_)
    · have hf := ite_t c hf
      exact w_X2_lasts_j81 GA Z v0 v1 v2 v3 v4 (some a43)  rc24 hrc24 rc41 hrc41 (hl.sub [1, 2, 3, 4, 5, 6] rfl) hf
    · have hf := ite_f c hf
      refine a_aload_n (pc := 72) X dX2_lasts_72 rfl hl 3 rfl ?_
      refine a_aload (pc := 73) X dX2_lasts_73 hl 0 rfl ?_
      refine a_getN (pc := 75) (φ := 501) pI_t X Z.1.2.1 (gnF X.1 X.2.1 q914) (fun _ q => q) (by decide) dX2_lasts_75 hf (fun x75 hf => ?_)
      obtain ⟨a78, rfl, ⟨hk, hf⟩ | ⟨-, hf⟩⟩ := dv_some hf
      rotate_left
      · exact fl_none hf
      refine a_callb (pc := 78) (rs := []) (avs := [vR (some a78), vI x75]) Z.1 (w_X7_wears GA (some a78) x75) (Or.inl rfl) q1979 q91 (by decide) (by decide) dX2_lasts_78 hl.1 (Nat.le_of_ble_eq_true rfl) hf (ct_V hk ⟨by decide, by decide⟩ X (Or.inl rfl) q1979 q1976 q1977 q1978 hy_X7_wears np_X7_wears rfl dX2_lasts_78) (fun q h he hX => a_out (unc_of Z.2.1 rfl) Z.2.2.2.1 he hX) (fun _ h hf => ?kk78)
      refine AW.eq (g2 := F0 m 81 ls []) rfl ?_
      exact w_X2_lasts_j81 GA Z v0 v1 (some a78) v3 v4 (some a43)  rc24 hrc24 rc41 hrc41 (hl.sub [1, 2, 3, 4, 5, 6] rfl) hf
theorem w_X2_lasts_l41 {r : Except Nat (Int32) × AH} (GA : GA l s0 a0 K lam) (Z : WZ l s0 a0 K p s m c cX2_lasts yX2_lasts.cls 7 b R 11 3109 meth [] (some (.int)) yX2_lasts) (v0 : Option Nat) (v1 : Int32) (v2 : Option Nat) (v3 : Int32) (v4 : Int32) (v5 : Option Nat) (rc24 : Int32 → AM (Int32)) (hrc24 : ∀ (v4 : Int32) (h : AH) (ls : Array Slot), LV ls 7 [(0, vR v0), (1, vI v1), (2, vR v2), (3, vI v3), (4, vI v4)] → rc24 v4 h = some r → AW s0 K lam p l e R s m args below meth c (AQ s0 K lam below oI b r s) b h (F0 m 24 ls [])) : ∀ (n : Nat)  (h : AH) (ls : Array Slot), LV ls 7 [(0, vR v0), (1, vI v1), (2, vR v2), (3, vI v3), (4, vI v4), (5, vR v5)] → f_X2_lasts_l41 K rc24 v0 v1 v2 v3 v4 v5 n  h = some r → AW s0 K lam p l e R s m args below meth c (AQ s0 K lam below oI b r s) b h (F0 m 41 ls []) := by
  intro n
  induction n with
  | zero => intro  h ls hl hf; exact fl_no (h := h) hf
  | succ n ih => intro  h ls hl hf; exact w_X2_lasts_b41 GA Z v0 v1 v2 v3 v4 v5 rc24 hrc24 (f_X2_lasts_l41 K rc24 v0 v1 v2 v3 v4 v5 n) ih hl hf
theorem w_X2_lasts_b24 {r : Except Nat (Int32) × AH} (GA : GA l s0 a0 K lam) (Z : WZ l s0 a0 K p s m c cX2_lasts yX2_lasts.cls 7 b R 11 3109 meth [] (some (.int)) yX2_lasts) (v0 : Option Nat) (v1 : Int32) (v2 : Option Nat) (v3 : Int32) (v4 : Int32)  (rc24 : Int32 → AM (Int32)) (hrc24 : ∀ (v4 : Int32) (h : AH) (ls : Array Slot), LV ls 7 [(0, vR v0), (1, vI v1), (2, vR v2), (3, vI v3), (4, vI v4)] → rc24 v4 h = some r → AW s0 K lam p l e R s m args below meth c (AQ s0 K lam below oI b r s) b h (F0 m 24 ls [])) {h : AH} {ls : Array Slot} (hl : LV ls 7 [(0, vR v0), (1, vI v1), (2, vR v2), (3, vI v3), (4, vI v4)]) (hf : f_X2_lasts_b24 K rc24 v0 v1 v2 v3 v4 h = some r) : AW s0 K lam p l e R s m args below meth c (AQ s0 K lam below oI b r s) b h (F0 m 24 ls []) := by
  unfold f_X2_lasts_b24 at hf
  have X := Z.1.1
  refine a_aload_n (pc := 24) X dX2_lasts_24 rfl hl 2 rfl ?_
  obtain ⟨a25, rfl, ⟨hk, hf⟩ | ⟨-, hf⟩⟩ := dv_some hf
  rotate_left
  · exact fl_none hf
  refine a_callb (pc := 25) (rs := []) (avs := [vR (some a25)]) Z.1 (w_X7_bears GA (some a25)) (Or.inl rfl) q1846 q91 (by decide) (by decide) dX2_lasts_25 hl.1 (Nat.le_of_ble_eq_true rfl) hf (ct_V hk ⟨by decide, by decide⟩ X (Or.inl rfl) q1846 q1843 q1844 q1845 hy_X7_bears np_X7_bears rfl dX2_lasts_25) (fun q h he hX => a_out (unc_of Z.2.1 rfl) Z.2.2.2.1 he hX) (fun x25 h hf => ?kk25)
  refine AW.eq (g2 := F0 m 28 ls [.int x25]) rfl ?_
  refine a_iload_n (pc := 28) X dX2_lasts_28 rfl hl 3 rfl ?_
  refine AW.lift2 (fun _ _ _ _ k1 k2 => lv_icmp_lt (pc := 29) (tgt := 90) X.2.2.1 X.2.2.2.1 dX2_lasts_29 rfl k1 k2) (fun c => ?_) (fun c => ?_)
  · have hf := ite_t c hf
    refine a_iload (pc := 90) X dX2_lasts_90 hl 4 rfl ?_
    exact a_ireturn X Z.2.2.1 Z.2.2.2.1 dX2_lasts_92 hf
  · have hf := ite_f c hf
    refine a_aload_n (pc := 32) X dX2_lasts_32 rfl hl 0 rfl ?_
    refine a_get (pc := 33) (φ := 301) pR_t X Z.1.2.1 (gw X.1 X.2.1 q230) (fun _ q => q) (by decide) dX2_lasts_33 hf (fun x33 hf => ?_)
    obtain ⟨a36, rfl, ⟨hk, hf⟩ | ⟨-, hf⟩⟩ := dv_some hf
    rotate_left
    · exact fl_none hf
    refine a_callb (pc := 36) (rs := []) (avs := [vR (some a36)]) Z.1 (w_J2_iterator GA (some a36)) (Or.inl rfl) q347 q78 (by decide) (by decide) dX2_lasts_36 hl.1 (Nat.le_of_ble_eq_true rfl) hf (ct_V hk ⟨by decide, by decide⟩ X (Or.inl rfl) q347 q344 q345 q346 hy_J2_iterator np_J2_iterator rfl dX2_lasts_36) (fun q h he hX => a_out (unc_of Z.2.1 rfl) Z.2.2.2.1 he hX) (fun x36 h hf => ?kk36)
    refine AW.eq (g2 := F0 m 39 ls [va_rf x36]) rfl ?_
    refine a_astore (pc := 39) X dX2_lasts_39 hl (by decide) (lv' := [(5, vR x36), (0, vR v0), (1, vI v1), (2, vR (some a25)), (3, vI v3), (4, vI v4)]) rfl (fun ls hl => ?_)
    exact w_X2_lasts_l41 GA Z v0 v1 (some a25) v3 v4 x36 rc24 hrc24 FU  _ _ (hl.sub [1, 2, 3, 4, 5, 0] rfl) hf
theorem w_X2_lasts_l24 {r : Except Nat (Int32) × AH} (GA : GA l s0 a0 K lam) (Z : WZ l s0 a0 K p s m c cX2_lasts yX2_lasts.cls 7 b R 11 3109 meth [] (some (.int)) yX2_lasts) (v0 : Option Nat) (v1 : Int32) (v2 : Option Nat) (v3 : Int32)  : ∀ (n : Nat) (v4 : Int32) (h : AH) (ls : Array Slot), LV ls 7 [(0, vR v0), (1, vI v1), (2, vR v2), (3, vI v3), (4, vI v4)] → f_X2_lasts_l24 K v0 v1 v2 v3 n v4 h = some r → AW s0 K lam p l e R s m args below meth c (AQ s0 K lam below oI b r s) b h (F0 m 24 ls []) := by
  intro n
  induction n with
  | zero => intro v4 h ls hl hf; exact fl_no (h := h) hf
  | succ n ih => intro v4 h ls hl hf; exact w_X2_lasts_b24 GA Z v0 v1 v2 v3 v4 (f_X2_lasts_l24 K v0 v1 v2 v3 n) ih hl hf
theorem np_X2_lasts : npar yX2_lasts.desc 1 := by unfold npar; decide +kernel
theorem hy_X2_lasts : yX2_lasts.cls ≠ "java/lang/invoke/MethodHandle" ∧ yX2_lasts.cls ≠ "java/lang/invoke/VarHandle" := by decide +kernel
theorem w_X2_lasts (GA : GA l s0 a0 K lam) (v0 : Option Nat) (v1 : Int32) : AMet l s0 K lam yX2_lasts (Cond.code yX2_lasts cX2_lasts (7 : Nat) (Option.some ClassFile.FieldType.int)) 11 3109 [vR v0, vI v1] oI (f_X2_lasts K v0 v1) := by
  refine AMet.of GA.1 (plainFor_of_name (by decide +kernel)) (Nat.le_of_ble_eq_true rfl) ?_
  intro b r hf p e s m args below meth c X hr hlk hnm hnd ht ls hl
  have Z : WZ l s0 a0 K p s m c cX2_lasts yX2_lasts.cls 7 b { frames := 11, cells := K 0 - aX b, slots := K 1 - aW b, locals := 3109 } 11 3109 meth [] (some (.int)) yX2_lasts := ⟨⟨X, GA.2.1, GA.2.2.1, rfl, rfl, Nat.le_refl _, Nat.le_refl _⟩, tab_nil ht, hr, hlk, hnm, hnd⟩
  unfold f_X2_lasts at hf
  clear hr hlk hnm hnd ht
  refine a_aload_n (pc := 0) X dX2_lasts_0 rfl hl 0 rfl ?_
  refine a_get (pc := 1) (φ := 300) pR_t X Z.1.2.1 (gw X.1 X.2.1 q228) (fun _ q => q) (by decide) dX2_lasts_1 hf (fun x1 hf => ?_)
  refine a_iload_n (pc := 4) X dX2_lasts_4 rfl hl 1 rfl ?_
  obtain ⟨a5, rfl, ⟨hk, hf⟩ | ⟨-, hf⟩⟩ := dv_some hf
  rotate_left
  · exact fl_none hf
  refine a_callb (pc := 5) (rs := []) (avs := [vR (some a5), vI v1]) Z.1 (w_J2_get GA (some a5) v1) (Or.inl rfl) q505 q78 (by decide) (by decide) dX2_lasts_5 hl.1 (Nat.le_of_ble_eq_true rfl) hf (ct_V hk ⟨by decide, by decide⟩ X (Or.inl rfl) q505 q1828 q503 q3487 hy_J2_get np_J2_get rfl dX2_lasts_5) (fun q h he hX => a_out (unc_of Z.2.1 rfl) Z.2.2.2.1 he hX) (fun x5 h hf => ?kk5)
  refine AW.eq (g2 := F0 m 8 ls [va_rf x5]) rfl ?_
  refine a_checkcast (pc := 8) X (gw X.1 X.2.1 q802) (cs_JumpHall_Mat GA) dX2_lasts_8 hf (fun hf => ?_)
  obtain ⟨a11, rfl, ⟨hk, hf⟩ | ⟨-, hf⟩⟩ := dv_some hf
  rotate_left
  · exact fl_none hf
  refine a_callb (pc := 11) (rs := []) (avs := [vR (some a11)]) Z.1 (w_X7_copy GA (some a11)) (Or.inl rfl) q806 q91 (by decide) (by decide) dX2_lasts_11 hl.1 (Nat.le_of_ble_eq_true rfl) hf (ct_V hk ⟨by decide, by decide⟩ X (Or.inl rfl) q806 q803 q804 q805 hy_X7_copy np_X7_copy rfl dX2_lasts_11) (fun q h he hX => a_out (unc_of Z.2.1 rfl) Z.2.2.2.1 he hX) (fun x11 h hf => ?kk11)
  refine AW.eq (g2 := F0 m 14 ls [va_rf x11]) rfl ?_
  refine a_astore_n (pc := 14) X dX2_lasts_14 rfl hl (by decide) (lv' := [(2, vR x11), (0, vR v0), (1, vI v1)]) rfl (fun ls hl => ?_)
  refine a_aload_n (pc := 15) X dX2_lasts_15 rfl hl 1 rfl ?_
  refine a_iload_n (pc := 16) X dX2_lasts_16 rfl hl 2 rfl ?_
  obtain ⟨a17, rfl, ⟨hk, hf⟩ | ⟨-, hf⟩⟩ := dv_some hf
  rotate_left
  · exact fl_none hf
  refine a_callb (pc := 17) (rs := []) (avs := [vR (some a17), vI v1]) Z.1 (w_X2_weightOn GA (some a17) v1) (Or.inl rfl) q1905 q75 (by decide) (by decide) dX2_lasts_17 hl.1 (Nat.le_of_ble_eq_true rfl) hf (ct_V hk ⟨by decide, by decide⟩ X (Or.inl rfl) q1905 q1975 q1903 q1904 hy_X2_weightOn np_X2_weightOn rfl dX2_lasts_17) (fun q h he hX => a_out (unc_of Z.2.1 rfl) Z.2.2.2.1 he hX) (fun x17 h hf => ?kk17)
  refine AW.eq (g2 := F0 m 20 ls [.int x17]) rfl ?_
  refine a_istore_n (pc := 20) X dX2_lasts_20 rfl hl (by decide) (lv' := [(3, vI x17), (2, vR x11), (0, vR (some a17)), (1, vI v1)]) rfl (fun ls hl => ?_)
  refine AW.lift (fun _ _ _ _ k => lv_iconst (pc := 21) (v := (0 : Int32)) X.2.2.1 X.2.2.2.1 dX2_lasts_21 rfl k) ?_
  refine a_istore (pc := 22) X dX2_lasts_22 hl (by decide) (lv' := [(4, vI (0 : Int32)), (3, vI x17), (2, vR x11), (0, vR (some a17)), (1, vI v1)]) rfl (fun ls hl => ?_)
  exact w_X2_lasts_l24 GA Z (some a17) v1 x11 x17  FU (0 : Int32) _ _ (hl.sub [3, 4, 2, 1, 0] rfl) hf
theorem w_X1_lasts_j22 {r : Except Nat (Int32) × AH} (GA : GA l s0 a0 K lam) (Z : WZ l s0 a0 K p s m c cX1_lasts yX1_lasts.cls 3 b R 12 3135 meth [] (some (.int)) yX1_lasts) (v0 : Option Nat) (v1 : Int32) (t0 : Int32)  {h : AH} {ls : Array Slot} (hl : LV ls 3 [(0, vR v0), (1, vI v1)]) (hf : f_X1_lasts_j22 K v0 v1 t0 h = some r) : AW s0 K lam p l e R s m args below meth c (AQ s0 K lam below oI b r s) b h (F0 m 22 ls [.int t0]) := by
  unfold f_X1_lasts_j22 at hf
  have X := Z.1.1
  refine a_callb (pc := 22) (rs := []) (avs := [vI t0]) Z.1 (w_X1_checkElement GA t0) (Or.inl rfl) q1968 q74 (by decide) (by decide) dX1_lasts_22 hl.1 (Nat.le_of_ble_eq_true rfl) hf (ct_S X (Or.inl rfl) q1968 q74 q1966 q1967 hy_X1_checkElement np_X1_checkElement rfl dX1_lasts_22) (fun q h he hX => a_out (unc_of Z.2.1 rfl) Z.2.2.2.1 he hX) (fun _ h hf => ?kk22)
  refine AW.eq (g2 := F0 m 25 ls []) rfl ?_
  refine a_aload_n (pc := 25) X dX1_lasts_25 rfl hl 0 rfl ?_
  refine a_get (pc := 26) (φ := 200) pR_t X Z.1.2.1 (gw X.1 X.2.1 q309) (fun _ q => q) (by decide) dX1_lasts_26 hf (fun x26 hf => ?_)
  refine a_iload_n (pc := 29) X dX1_lasts_29 rfl hl 1 rfl ?_
  obtain ⟨a30, rfl, ⟨hk, hf⟩ | ⟨-, hf⟩⟩ := dv_some hf
  rotate_left
  · exact fl_none hf
  refine a_callb (pc := 30) (rs := []) (avs := [vR (some a30), vI v1]) Z.1 (w_X2_lasts GA (some a30) v1) (Or.inl rfl) q1974 q75 (by decide) (by decide) dX1_lasts_30 hl.1 (Nat.le_of_ble_eq_true rfl) hf (ct_V hk ⟨by decide, by decide⟩ X (Or.inl rfl) q1974 q1971 q1972 q1973 hy_X2_lasts np_X2_lasts rfl dX1_lasts_30) (fun q h he hX => a_out (unc_of Z.2.1 rfl) Z.2.2.2.1 he hX) (fun x30 h hf => ?kk30)
  refine AW.eq (g2 := F0 m 33 ls [.int x30]) rfl ?_
  exact a_ireturn X Z.2.2.1 Z.2.2.2.1 dX1_lasts_33 hf
theorem np_X1_lasts : npar yX1_lasts.desc 1 := by unfold npar; decide +kernel
theorem hy_X1_lasts : yX1_lasts.cls ≠ "java/lang/invoke/MethodHandle" ∧ yX1_lasts.cls ≠ "java/lang/invoke/VarHandle" := by decide +kernel
theorem w_X1_lasts (GA : GA l s0 a0 K lam) (v0 : Option Nat) (v1 : Int32) : AMet l s0 K lam yX1_lasts (Cond.code yX1_lasts cX1_lasts (3 : Nat) (Option.some ClassFile.FieldType.int)) 12 3135 [vR v0, vI v1] oI (f_X1_lasts K v0 v1) := by
  refine AMet.of GA.1 (plainFor_of_name (by decide +kernel)) (Nat.le_of_ble_eq_true rfl) ?_
  intro b r hf p e s m args below meth c X hr hlk hnm hnd ht ls hl
  have Z : WZ l s0 a0 K p s m c cX1_lasts yX1_lasts.cls 3 b { frames := 12, cells := K 0 - aX b, slots := K 1 - aW b, locals := 3135 } 12 3135 meth [] (some (.int)) yX1_lasts := ⟨⟨X, GA.2.1, GA.2.2.1, rfl, rfl, Nat.le_refl _, Nat.le_refl _⟩, tab_nil ht, hr, hlk, hnm, hnd⟩
  unfold f_X1_lasts at hf
  clear hr hlk hnm hnd ht
  refine a_aload_n (pc := 0) X dX1_lasts_0 rfl hl 0 rfl ?_
  refine a_iload_n (pc := 1) X dX1_lasts_1 rfl hl 1 rfl ?_
  obtain ⟨a2, rfl, ⟨hk, hf⟩ | ⟨-, hf⟩⟩ := dv_some hf
  rotate_left
  · exact fl_none hf
  refine a_callb (pc := 2) (rs := []) (avs := [vR (some a2), vI v1]) Z.1 (w_X1_matAt GA (some a2) v1) (Or.inl rfl) q1861 q74 (by decide) (by decide) dX1_lasts_2 hl.1 (Nat.le_of_ble_eq_true rfl) hf (ct_V hk ⟨by decide, by decide⟩ X (Or.inl rfl) q1861 q1858 q1860 pv_6 hy_X1_matAt np_X1_matAt rfl dX1_lasts_2) (fun q h he hX => a_out (unc_of Z.2.1 rfl) Z.2.2.2.1 he hX) (fun x2 h hf => ?kk2)
  refine AW.eq (g2 := F0 m 5 ls [va_rf x2]) rfl ?_
  refine a_astore_n (pc := 5) X dX1_lasts_5 rfl hl (by decide) (lv' := [(2, vR x2), (0, vR (some a2)), (1, vI v1)]) rfl (fun ls hl => ?_)
  refine a_aload_n (pc := 6) X dX1_lasts_6 rfl hl 1 rfl ?_
  refine a_get (pc := 7) (φ := 200) pR_t X Z.1.2.1 (gw X.1 X.2.1 q309) (fun _ q => q) (by decide) dX1_lasts_7 hf (fun x7 hf => ?_)
  refine a_iload_n (pc := 10) X dX1_lasts_10 rfl hl 2 rfl ?_
  obtain ⟨a11, rfl, ⟨hk, hf⟩ | ⟨-, hf⟩⟩ := dv_some hf
  rotate_left
  · exact fl_none hf
  refine a_callb (pc := 11) (rs := []) (avs := [vR (some a11), vI v1]) Z.1 (w_X2_weightOn GA (some a11) v1) (Or.inl rfl) q1905 q75 (by decide) (by decide) dX1_lasts_11 hl.1 (Nat.le_of_ble_eq_true rfl) hf (ct_V hk ⟨by decide, by decide⟩ X (Or.inl rfl) q1905 q1902 q1903 q1904 hy_X2_weightOn np_X2_weightOn rfl dX1_lasts_11) (fun q h he hX => a_out (unc_of Z.2.1 rfl) Z.2.2.2.1 he hX) (fun x11 h hf => ?kk11)
  refine AW.eq (g2 := F0 m 14 ls [.int x11]) rfl ?_
  refine AW.lift2 (fun _ _ _ _ k1 k2 => lv_if_le (pc := 14) (tgt := 21) X.2.2.1 X.2.2.2.1 dX1_lasts_14 rfl k1 k2) (fun c => ?_) (fun c => ?_)
  · have hf := ite_t c hf
    refine AW.lift (fun _ _ _ _ k => lv_iconst (pc := 21) (v := (0 : Int32)) X.2.2.1 X.2.2.2.1 dX1_lasts_21 rfl k) ?_
    exact w_X1_lasts_j22 GA Z (some a2) v1 (0 : Int32)  (hl.sub [1, 2] rfl) hf
  · have hf := ite_f c hf
    refine AW.lift (fun _ _ _ _ k => lv_iconst (pc := 17) (v := (1 : Int32)) X.2.2.1 X.2.2.2.1 dX1_lasts_17 rfl k) ?_
    refine AW.lift (fun _ _ _ _ k => lv_goto (pc := 18) (tgt := 22) X.2.2.1 X.2.2.2.1 dX1_lasts_18 rfl k) ?_
    exact w_X1_lasts_j22 GA Z (some a2) v1 (1 : Int32)  (hl.sub [1, 2] rfl) hf
end WK
