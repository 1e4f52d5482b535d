section WK
variable {l : Launch} {s0 : State} {a0 : Array Value} {K : Nat → Nat} {lam : Nat → ClassId}
variable {p : Program} {e : Env} {R : Room} {s : State} {m : MethodId} {args : Array Value} {below : List Frame} {meth : Method} {c : Code} {b : AH}
theorem w_X4_jumpersAt_j35 {r : Except Nat (Int32) × AH} (GA : GA l s0 a0 K lam) (Z : WZ l s0 a0 K p s m c cX4_jumpersAt yX4_jumpersAt.cls 4 b R 1 20 meth [] (some (.int)) yX4_jumpersAt) (v0 : Option Nat) (v1 : Int32) (v3 : Int32) (t0 : Int32) (t1 : Int32) (rc4 : Int32 → Int32 → AM (Int32)) (hrc4 : ∀ (v2 : Int32) (v3 : Int32) (h : AH) (ls : Array Slot), LV ls 4 [(0, vR v0), (1, vI v1), (2, vI v2), (3, vI v3)] → rc4 v2 v3 h = some r → AW s0 K lam p l e R s m args below meth c (AQ s0 K lam below oI b r s) b h (F0 m 4 ls [])) {h : AH} {ls : Array Slot} (hl : LV ls 4 [(0, vR v0), (1, vI v1), (3, vI v3)]) (hf : f_X4_jumpersAt_j35 K rc4 v0 v1 v3 t0 t1 h = some r) : AW s0 K lam p l e R s m args below meth c (AQ s0 K lam below oI b r s) b h (F0 m 35 ls [.int t0, .int t1]) := by
  unfold f_X4_jumpersAt_j35 at hf
  have X := Z.1.1
  refine AW.lift (fun _ _ _ _ k => lv_iadd (pc := 35) X.2.2.1 X.2.2.2.1 dX4_jumpersAt_35 k) ?_
  refine a_istore_n (pc := 36) X dX4_jumpersAt_36 rfl hl (by decide) (lv' := [(2, vI (t1 + t0)), (0, vR v0), (1, vI v1), (3, vI v3)]) rfl (fun ls hl => ?_)
  refine a_iinc (pc := 37) (v := (v3 + (1 : Int32))) X dX4_jumpersAt_37 hl (k := 3) rfl rfl (by decide) (lv' := [(3, vI (v3 + (1 : Int32))), (2, vI (t1 + t0)), (0, vR v0), (1, vI v1)]) rfl (fun ls hl => ?_)
  refine AW.lift (fun _ _ _ _ k => lv_goto (pc := 40) (tgt := 4) X.2.2.1 X.2.2.2.1 dX4_jumpersAt_40 rfl k) ?_
  exact hrc4 (t1 + t0) (v3 + (1 : Int32)) _ _ (hl.sub [2, 3, 1, 0] rfl) hf
theorem w_X4_jumpersAt_b4 {r : Except Nat (Int32) × AH} (GA : GA l s0 a0 K lam) (Z : WZ l s0 a0 K p s m c cX4_jumpersAt yX4_jumpersAt.cls 4 b R 1 20 meth [] (some (.int)) yX4_jumpersAt) (v0 : Option Nat) (v1 : Int32) (v2 : Int32) (v3 : Int32)  (rc4 : Int32 → Int32 → AM (Int32)) (hrc4 : ∀ (v2 : Int32) (v3 : Int32) (h : AH) (ls : Array Slot), LV ls 4 [(0, vR v0), (1, vI v1), (2, vI v2), (3, vI v3)] → rc4 v2 v3 h = some r → AW s0 K lam p l e R s m args below meth c (AQ s0 K lam below oI b r s) b h (F0 m 4 ls [])) {h : AH} {ls : Array Slot} (hl : LV ls 4 [(0, vR v0), (1, vI v1), (2, vI v2), (3, vI v3)]) (hf : f_X4_jumpersAt_b4 K rc4 v0 v1 v2 v3 h = some r) : AW s0 K lam p l e R s m args below meth c (AQ s0 K lam below oI b r s) b h (F0 m 4 ls []) := by
  unfold f_X4_jumpersAt_b4 at hf
  have X := Z.1.1
  refine a_iload_n (pc := 4) X dX4_jumpersAt_4 rfl hl 3 rfl ?_
  refine a_aload_n (pc := 5) X dX4_jumpersAt_5 rfl hl 0 rfl ?_
  refine a_get (pc := 6) (φ := 100) pR_t X Z.1.2.1 (gw X.1 X.2.1 q3025) (fun _ q => q) (by decide) dX4_jumpersAt_6 hf (fun x6 hf => ?_)
  refine AW.lift (fun _ _ _ _ k => lv_iconst (pc := 9) (v := (2 : Int32)) X.2.2.1 X.2.2.2.1 dX4_jumpersAt_9 rfl k) ?_
  refine a_iaload (pc := 10) X dX4_jumpersAt_10 hf (fun x10 hf => ?_)
  refine AW.lift2 (fun _ _ _ _ k1 k2 => lv_icmp_ge (pc := 11) (tgt := 43) X.2.2.1 X.2.2.2.1 dX4_jumpersAt_11 rfl k1 k2) (fun c => ?_) (fun c => ?_)
  · have hf := ite_t c hf
    refine a_iload_n (pc := 43) X dX4_jumpersAt_43 rfl hl 2 rfl ?_
    exact a_ireturn X Z.2.2.1 Z.2.2.2.1 dX4_jumpersAt_44 hf
  · have hf := ite_f c hf
    refine a_iload_n (pc := 14) X dX4_jumpersAt_14 rfl hl 2 rfl ?_
    refine a_aload_n (pc := 15) X dX4_jumpersAt_15 rfl hl 0 rfl ?_
    refine a_get (pc := 16) (φ := 100) pR_t X Z.1.2.1 (gw X.1 X.2.1 q3025) (fun _ q => q) (by decide) dX4_jumpersAt_16 hf (fun x16 hf => ?_)
    refine a_iload_n (pc := 19) X dX4_jumpersAt_19 rfl hl 3 rfl ?_
    refine a_callb (pc := 20) (rs := [vR x16, vI v2]) (avs := [vI v3]) Z.1 (w_X4_at0 GA v3) (Or.inl rfl) q3154 q86 (by decide) (by decide) dX4_jumpersAt_20 hl.1 (Nat.le_of_ble_eq_true rfl) hf (ct_S X (Or.inl rfl) q3154 q86 q3152 q3153 hy_X4_at0 np_X4_at0 rfl dX4_jumpersAt_20) (fun q h he hX => a_out (unc_of Z.2.1 rfl) Z.2.2.2.1 he hX) (fun x20 h hf => ?kk20)
    refine AW.eq (g2 := F0 m 23 ls [.int x20, va_rf x16, .int v2]) rfl ?_
    refine AW.lift (fun _ _ _ _ k => lv_iconst (pc := 23) (v := (2 : Int32)) X.2.2.1 X.2.2.2.1 dX4_jumpersAt_23 rfl k) ?_
    refine AW.lift (fun _ _ _ _ k => lv_iadd (pc := 24) X.2.2.1 X.2.2.2.1 dX4_jumpersAt_24 k) ?_
    refine a_iaload (pc := 25) X dX4_jumpersAt_25 hf (fun x25 hf => ?_)
    refine a_iload_n (pc := 26) X dX4_jumpersAt_26 rfl hl 1 rfl ?_
    refine AW.lift2 (fun _ _ _ _ k1 k2 => lv_icmp_ne (pc := 27) (tgt := 34) X.2.2.1 X.2.2.2.1 dX4_jumpersAt_27 rfl k2 k1) (fun c => ?_) (fun c => ?_)
    · have hf := ite_t c hf
      refine AW.lift (fun _ _ _ _ k => lv_iconst (pc := 30) (v := (1 : Int32)) X.2.2.1 X.2.2.2.1 dX4_jumpersAt_30 rfl k) ?_
      refine AW.lift (fun _ _ _ _ k => lv_goto (pc := 31) (tgt := 35) X.2.2.1 X.2.2.2.1 dX4_jumpersAt_31 rfl k) ?_
      exact w_X4_jumpersAt_j35 GA Z v0 v1 v3 (1 : Int32) v2 rc4 hrc4 (hl.sub [0, 1, 3] rfl) hf
    · have hf := ite_f c hf
      refine AW.lift (fun _ _ _ _ k => lv_iconst (pc := 34) (v := (0 : Int32)) X.2.2.1 X.2.2.2.1 dX4_jumpersAt_34 rfl k) ?_
      exact w_X4_jumpersAt_j35 GA Z v0 v1 v3 (0 : Int32) v2 rc4 hrc4 (hl.sub [0, 1, 3] rfl) hf
theorem w_X4_jumpersAt_l4 {r : Except Nat (Int32) × AH} (GA : GA l s0 a0 K lam) (Z : WZ l s0 a0 K p s m c cX4_jumpersAt yX4_jumpersAt.cls 4 b R 1 20 meth [] (some (.int)) yX4_jumpersAt) (v0 : Option Nat) (v1 : Int32)  : ∀ (n : Nat) (v2 : Int32) (v3 : Int32) (h : AH) (ls : Array Slot), LV ls 4 [(0, vR v0), (1, vI v1), (2, vI v2), (3, vI v3)] → f_X4_jumpersAt_l4 K v0 v1 n v2 v3 h = some r → AW s0 K lam p l e R s m args below meth c (AQ s0 K lam below oI b r s) b h (F0 m 4 ls []) := by
  intro n
  induction n with
  | zero => intro v2 v3 h ls hl hf; exact fl_no (h := h) hf
  | succ n ih => intro v2 v3 h ls hl hf; exact w_X4_jumpersAt_b4 GA Z v0 v1 v2 v3 (f_X4_jumpersAt_l4 K v0 v1 n) ih hl hf
theorem np_X4_jumpersAt : npar yX4_jumpersAt.desc 1 := by unfold npar; decide +kernel
theorem hy_X4_jumpersAt : yX4_jumpersAt.cls ≠ "java/lang/invoke/MethodHandle" ∧ yX4_jumpersAt.cls ≠ "java/lang/invoke/VarHandle" := by decide +kernel
theorem w_X4_jumpersAt (GA : GA l s0 a0 K lam) (v0 : Option Nat) (v1 : Int32) : AMet l s0 K lam yX4_jumpersAt (Cond.code yX4_jumpersAt cX4_jumpersAt (4 : Nat) (Option.some ClassFile.FieldType.int)) 1 20 [vR v0, vI v1] oI (f_X4_jumpersAt K v0 v1) := by
  refine AMet.of GA.1 (plainFor_of_name (by decide +kernel)) (Nat.le_of_ble_eq_true rfl) ?_
  intro b r hf p e s m args below meth c X hr hlk hnm hnd ht ls hl
  have Z : WZ l s0 a0 K p s m c cX4_jumpersAt yX4_jumpersAt.cls 4 b { frames := 1, cells := K 0 - aX b, slots := K 1 - aW b, locals := 20 } 1 20 meth [] (some (.int)) yX4_jumpersAt := ⟨⟨X, GA.2.1, GA.2.2.1, rfl, rfl, Nat.le_refl _, Nat.le_refl _⟩, tab_nil ht, hr, hlk, hnm, hnd⟩
  unfold f_X4_jumpersAt at hf
  clear hr hlk hnm hnd ht
  refine AW.lift (fun _ _ _ _ k => lv_iconst (pc := 0) (v := (0 : Int32)) X.2.2.1 X.2.2.2.1 dX4_jumpersAt_0 rfl k) ?_
  refine a_istore_n (pc := 1) X dX4_jumpersAt_1 rfl hl (by decide) (lv' := [(2, vI (0 : Int32)), (0, vR v0), (1, vI v1)]) rfl (fun ls hl => ?_)
  refine AW.lift (fun _ _ _ _ k => lv_iconst (pc := 2) (v := (0 : Int32)) X.2.2.1 X.2.2.2.1 dX4_jumpersAt_2 rfl k) ?_
  refine a_istore_n (pc := 3) X dX4_jumpersAt_3 rfl hl (by decide) (lv' := [(3, vI (0 : Int32)), (2, vI (0 : Int32)), (0, vR v0), (1, vI v1)]) rfl (fun ls hl => ?_)
  exact w_X4_jumpersAt_l4 GA Z v0 v1  FU (0 : Int32) (0 : Int32) _ _ (hl.sub [2, 3, 1, 0] rfl) hf
theorem np_X4_leave : npar yX4_leave.desc 1 := by unfold npar; decide +kernel
theorem hy_X4_leave : yX4_leave.cls ≠ "java/lang/invoke/MethodHandle" ∧ yX4_leave.cls ≠ "java/lang/invoke/VarHandle" := by decide +kernel
theorem w_X4_leave (GA : GA l s0 a0 K lam) (v0 : Option Nat) (v1 : Int32) : AMet l s0 K lam yX4_leave (Cond.code yX4_leave cX4_leave (2 : Nat) (Option.some ClassFile.FieldType.int)) 2 46 [vR v0, vI v1] oI (f_X4_leave K v0 v1) := by
  refine AMet.of GA.1 (plainFor_of_name (by decide +kernel)) (Nat.le_of_ble_eq_true rfl) ?_
  intro b r hf p e s m args below meth c X hr hlk hnm hnd ht ls hl
  have Z : WZ l s0 a0 K p s m c cX4_leave yX4_leave.cls 2 b { frames := 2, cells := K 0 - aX b, slots := K 1 - aW b, locals := 46 } 2 46 meth [] (some (.int)) yX4_leave := ⟨⟨X, GA.2.1, GA.2.2.1, rfl, rfl, Nat.le_refl _, Nat.le_refl _⟩, tab_nil ht, hr, hlk, hnm, hnd⟩
  unfold f_X4_leave at hf
  clear hr hlk hnm hnd ht
  refine a_aload_n (pc := 0) X dX4_leave_0 rfl hl 0 rfl ?_
  obtain ⟨a1, rfl, ⟨hk, hf⟩ | ⟨-, hf⟩⟩ := dv_some hf
  rotate_left
  · exact fl_none hf
  refine a_callb (pc := 1) (rs := []) (avs := [vR (some a1)]) Z.1 (w_X4_layAside GA (some a1)) (Or.inl rfl) q3112 q86 (by decide) (by decide) dX4_leave_1 hl.1 (Nat.le_of_ble_eq_true rfl) hf (ct_V hk ⟨by decide, by decide⟩ X (Or.inl rfl) q3112 q3109 q3111 pv_28 hy_X4_layAside np_X4_layAside rfl dX4_leave_1) (fun q h he hX => a_out (unc_of Z.2.1 rfl) Z.2.2.2.1 he hX) (fun _ h hf => ?kk1)
  refine AW.eq (g2 := F0 m 4 ls []) rfl ?_
  refine a_aload_n (pc := 4) X dX4_leave_4 rfl hl 0 rfl ?_
  refine a_iload_n (pc := 5) X dX4_leave_5 rfl hl 1 rfl ?_
  rcases dv_someS hf with ⟨hk, hf⟩ | ⟨-, hf⟩
  rotate_left
  · exact fl_none hf
  refine a_callb (pc := 6) (rs := []) (avs := [vR (some a1), vI v1]) Z.1 (w_X4_isJumper GA (some a1) v1) (Or.inl rfl) q3221 q86 (by decide) (by decide) dX4_leave_6 hl.1 (Nat.le_of_ble_eq_true rfl) hf (ct_V hk ⟨by decide, by decide⟩ X (Or.inl rfl) q3221 q3218 q3220 pv_44 hy_X4_isJumper np_X4_isJumper rfl dX4_leave_6) (fun q h he hX => a_out (unc_of Z.2.1 rfl) Z.2.2.2.1 he hX) (fun x6 h hf => ?kk6)
  refine AW.eq (g2 := F0 m 9 ls [.int x6]) rfl ?_
  refine AW.lift2 (fun _ _ _ _ k1 k2 => lv_if_ne (pc := 9) (tgt := 18) X.2.2.1 X.2.2.2.1 dX4_leave_9 rfl k2 k1) (fun c => ?_) (fun c => ?_)
  · have hf := ite_t c hf
    refine a_aload_n (pc := 12) X dX4_leave_12 rfl hl 0 rfl ?_
    refine AW.lift (fun _ _ _ _ k => lv_iconst (pc := 13) (v := (1 : Int32)) X.2.2.1 X.2.2.2.1 dX4_leave_13 rfl k) ?_
    rcases dv_someS hf with ⟨hk, hf⟩ | ⟨-, hf⟩
    rotate_left
    · exact fl_none hf
    refine a_callb (pc := 14) (rs := []) (avs := [vR (some a1), vI (1 : Int32)]) Z.1 (w_X4_throwing GA (some a1) (1 : Int32)) (Or.inl rfl) q3120 q86 (by decide) (by decide) dX4_leave_14 hl.1 (Nat.le_of_ble_eq_true rfl) hf (ct_V hk ⟨by decide, by decide⟩ X (Or.inl rfl) q3120 q3117 q3119 pv_30 hy_X4_throwing np_X4_throwing rfl dX4_leave_14) (fun q h he hX => a_out (unc_of Z.2.1 rfl) Z.2.2.2.1 he hX) (fun x14 h hf => ?kk14)
    refine AW.eq (g2 := F0 m 17 ls [.int x14]) rfl ?_
    exact a_ireturn X Z.2.2.1 Z.2.2.2.1 dX4_leave_17 hf
  · have hf := ite_f c hf
    refine a_aload_n (pc := 18) X dX4_leave_18 rfl hl 0 rfl ?_
    refine a_get (pc := 19) (φ := 100) pR_t X Z.1.2.1 (gw X.1 X.2.1 q3025) (fun _ q => q) (by decide) dX4_leave_19 hf (fun x19 hf => ?_)
    refine a_iload_n (pc := 22) X dX4_leave_22 rfl hl 1 rfl ?_
    refine a_callb (pc := 23) (rs := [vR x19]) (avs := [vI v1]) Z.1 (w_X4_at0 GA v1) (Or.inl rfl) q3154 q86 (by decide) (by decide) dX4_leave_23 hl.1 (Nat.le_of_ble_eq_true rfl) hf (ct_S X (Or.inl rfl) q3154 q86 q3152 q3153 hy_X4_at0 np_X4_at0 rfl dX4_leave_23) (fun q h he hX => a_out (unc_of Z.2.1 rfl) Z.2.2.2.1 he hX) (fun x23 h hf => ?kk23)
    refine AW.eq (g2 := F0 m 26 ls [.int x23, va_rf x19]) rfl ?_
    refine AW.lift (fun _ _ _ _ k => lv_iconst (pc := 26) (v := (2 : Int32)) X.2.2.1 X.2.2.2.1 dX4_leave_26 rfl k) ?_
    refine AW.lift (fun _ _ _ _ k => lv_iadd (pc := 27) X.2.2.1 X.2.2.2.1 dX4_leave_27 k) ?_
    refine a_iaload (pc := 28) X dX4_leave_28 hf (fun x28 hf => ?_)
    refine AW.lift2 (fun _ _ _ _ k1 k2 => lv_if_eq (pc := 29) (tgt := 50) X.2.2.1 X.2.2.2.1 dX4_leave_29 rfl k1 k2) (fun c => ?_) (fun c => ?_)
    · have hf := ite_t c hf
      refine a_aload_n (pc := 50) X dX4_leave_50 rfl hl 0 rfl ?_
      refine a_get (pc := 51) (φ := 100) pR_t X Z.1.2.1 (gw X.1 X.2.1 q3025) (fun _ q => q) (by decide) dX4_leave_51 hf (fun x51 hf => ?_)
      refine a_iload_n (pc := 54) X dX4_leave_54 rfl hl 1 rfl ?_
      refine a_callb (pc := 55) (rs := [vR x51]) (avs := [vI v1]) Z.1 (w_X4_at0 GA v1) (Or.inl rfl) q3154 q86 (by decide) (by decide) dX4_leave_55 hl.1 (Nat.le_of_ble_eq_true rfl) hf (ct_S X (Or.inl rfl) q3154 q86 q3152 q3153 hy_X4_at0 np_X4_at0 rfl dX4_leave_55) (fun q h he hX => a_out (unc_of Z.2.1 rfl) Z.2.2.2.1 he hX) (fun x55 h hf => ?kk55)
      refine AW.eq (g2 := F0 m 58 ls [.int x55, va_rf x51]) rfl ?_
      refine AW.lift (fun _ _ _ _ k => lv_iconst (pc := 58) (v := (2 : Int32)) X.2.2.1 X.2.2.2.1 dX4_leave_58 rfl k) ?_
      refine AW.lift (fun _ _ _ _ k => lv_iadd (pc := 59) X.2.2.1 X.2.2.2.1 dX4_leave_59 k) ?_
      refine AW.lift (fun _ _ _ _ k => lv_iconst (pc := 60) (v := (2 : Int32)) X.2.2.1 X.2.2.2.1 dX4_leave_60 rfl k) ?_
      refine a_iastore (pc := 61) X dX4_leave_61 hf (fun h hf => ?_)
      refine a_aload_n (pc := 62) X dX4_leave_62 rfl hl 0 rfl ?_
      refine a_aload_n (pc := 63) X dX4_leave_63 rfl hl 0 rfl ?_
      refine a_get (pc := 64) (φ := 100) pR_t X Z.1.2.1 (gw X.1 X.2.1 q3025) (fun _ q => q) (by decide) dX4_leave_64 hf (fun x64 hf => ?_)
      refine AW.lift (fun _ _ _ _ k => lv_iconst (pc := 67) (v := (2 : Int32)) X.2.2.1 X.2.2.2.1 dX4_leave_67 rfl k) ?_
      refine a_iaload (pc := 68) X dX4_leave_68 hf (fun x68 hf => ?_)
      refine a_aload_n (pc := 69) X dX4_leave_69 rfl hl 0 rfl ?_
      refine AW.lift (fun _ _ _ _ k => lv_iconst (pc := 70) (v := (2 : Int32)) X.2.2.1 X.2.2.2.1 dX4_leave_70 rfl k) ?_
      rcases dv_someS hf with ⟨hk, hf⟩ | ⟨-, hf⟩
      rotate_left
      · exact fl_none hf
      refine a_callb (pc := 71) (rs := [vI x68, vR (some a1)]) (avs := [vR (some a1), vI (2 : Int32)]) Z.1 (w_X4_jumpersAt GA (some a1) (2 : Int32)) (Or.inl rfl) q3245 q86 (by decide) (by decide) dX4_leave_71 hl.1 (Nat.le_of_ble_eq_true rfl) hf (ct_V hk ⟨by decide, by decide⟩ X (Or.inl rfl) q3245 q3242 q3244 pv_48 hy_X4_jumpersAt np_X4_jumpersAt rfl dX4_leave_71) (fun q h he hX => a_out (unc_of Z.2.1 rfl) Z.2.2.2.1 he hX) (fun x71 h hf => ?kk71)
      refine AW.eq (g2 := F0 m 74 ls [.int x71, .int x68, va_rf (some a1)]) rfl ?_
      refine AW.lift (fun _ _ _ _ k => lv_isub (pc := 74) X.2.2.1 X.2.2.2.1 dX4_leave_74 k) ?_
      rcases dv_someS hf with ⟨hk, hf⟩ | ⟨-, hf⟩
      rotate_left
      · exact fl_none hf
      refine a_callb (pc := 75) (rs := []) (avs := [vR (some a1), vI (x68 - x71)]) Z.1 (w_X4_changed GA (some a1) (x68 - x71)) (Or.inl rfl) q3127 q86 (by decide) (by decide) dX4_leave_75 hl.1 (Nat.le_of_ble_eq_true rfl) hf (ct_V hk ⟨by decide, by decide⟩ X (Or.inl rfl) q3127 q3124 q3126 pv_31 hy_X4_changed np_X4_changed rfl dX4_leave_75) (fun q h he hX => a_out (unc_of Z.2.1 rfl) Z.2.2.2.1 he hX) (fun x75 h hf => ?kk75)
      refine AW.eq (g2 := F0 m 78 ls [.int x75]) rfl ?_
      exact a_ireturn X Z.2.2.1 Z.2.2.2.1 dX4_leave_78 hf
    · have hf := ite_f c hf
      refine a_aload_n (pc := 32) X dX4_leave_32 rfl hl 0 rfl ?_
      refine AW.lift (fun _ _ _ _ k => lv_iconst (pc := 33) (v := (2 : Int32)) X.2.2.1 X.2.2.2.1 dX4_leave_33 rfl k) ?_
      refine AW.lift (fun _ _ _ _ k => lv_iconst (pc := 34) (v := (2 : Int32)) X.2.2.1 X.2.2.2.1 dX4_leave_34 rfl k) ?_
      refine a_aload_n (pc := 35) X dX4_leave_35 rfl hl 0 rfl ?_
      refine a_get (pc := 36) (φ := 100) pR_t X Z.1.2.1 (gw X.1 X.2.1 q3025) (fun _ q => q) (by decide) dX4_leave_36 hf (fun x36 hf => ?_)
      refine a_iload_n (pc := 39) X dX4_leave_39 rfl hl 1 rfl ?_
      refine a_callb (pc := 40) (rs := [vR x36, vI (2 : Int32), vI (2 : Int32), vR (some a1)]) (avs := [vI v1]) Z.1 (w_X4_at0 GA v1) (Or.inl rfl) q3154 q86 (by decide) (by decide) dX4_leave_40 hl.1 (Nat.le_of_ble_eq_true rfl) hf (ct_S X (Or.inl rfl) q3154 q86 q3152 q3153 hy_X4_at0 np_X4_at0 rfl dX4_leave_40) (fun q h he hX => a_out (unc_of Z.2.1 rfl) Z.2.2.2.1 he hX) (fun x40 h hf => ?kk40)
      refine AW.eq (g2 := F0 m 43 ls [.int x40, va_rf x36, .int (2 : Int32), .int (2 : Int32), va_rf (some a1)]) rfl ?_
      refine AW.lift (fun _ _ _ _ k => lv_iconst (pc := 43) (v := (2 : Int32)) X.2.2.1 X.2.2.2.1 dX4_leave_43 rfl k) ?_
      refine AW.lift (fun _ _ _ _ k => lv_iadd (pc := 44) X.2.2.1 X.2.2.2.1 dX4_leave_44 k) ?_
      refine a_iaload (pc := 45) X dX4_leave_45 hf (fun x45 hf => ?_)
      rcases dv_someS hf with ⟨hk, hf⟩ | ⟨-, hf⟩
      rotate_left
      · exact fl_none hf
      refine a_callb (pc := 46) (rs := []) (avs := [vR (some a1), vI (2 : Int32), vI (2 : Int32), vI x45]) Z.1 (w_X4_refuse GA (some a1) (2 : Int32) (2 : Int32) x45) (Or.inl rfl) q3116 q86 (by decide) (by decide) dX4_leave_46 hl.1 (Nat.le_of_ble_eq_true rfl) hf (ct_V hk ⟨by decide, by decide⟩ X (Or.inl rfl) q3116 q3113 q3115 pv_29 hy_X4_refuse np_X4_refuse rfl dX4_leave_46) (fun q h he hX => a_out (unc_of Z.2.1 rfl) Z.2.2.2.1 he hX) (fun x46 h hf => ?kk46)
      refine AW.eq (g2 := F0 m 49 ls [.int x46]) rfl ?_
      exact a_ireturn X Z.2.2.1 Z.2.2.2.1 dX4_leave_49 hf
theorem np_X1_areSocks : npar yX1_areSocks.desc 2 := by unfold npar; decide +kernel
theorem hy_X1_areSocks : yX1_areSocks.cls ≠ "java/lang/invoke/MethodHandle" ∧ yX1_areSocks.cls ≠ "java/lang/invoke/VarHandle" := by decide +kernel
theorem w_X1_areSocks (GA : GA l s0 a0 K lam) (v0 : Int32) (v1 : Int32) : AMet l s0 K lam yX1_areSocks (Cond.code yX1_areSocks cX1_areSocks (2 : Nat) (Option.some ClassFile.FieldType.boolean)) 1 22 [vI v0, vI v1] oI (f_X1_areSocks K v0 v1) := by
  refine AMet.of GA.1 (plainFor_of_name (by decide +kernel)) (Nat.le_of_ble_eq_true rfl) ?_
  intro b r hf p e s m args below meth c X hr hlk hnm hnd ht ls hl
  have Z : WZ l s0 a0 K p s m c cX1_areSocks yX1_areSocks.cls 2 b { frames := 1, cells := K 0 - aX b, slots := K 1 - aW b, locals := 22 } 1 22 meth [] (some (.boolean)) yX1_areSocks := ⟨⟨X, GA.2.1, GA.2.2.1, rfl, rfl, Nat.le_refl _, Nat.le_refl _⟩, tab_nil ht, hr, hlk, hnm, hnd⟩
  unfold f_X1_areSocks at hf
  clear hr hlk hnm hnd ht
  refine a_iload_n (pc := 0) X dX1_areSocks_0 rfl hl 0 rfl ?_
  refine AW.lift (fun _ _ _ _ k => lv_iconst (pc := 1) (v := (0 : Int32)) X.2.2.1 X.2.2.2.1 dX1_areSocks_1 rfl k) ?_
  refine AW.lift (fun _ _ _ _ k => lv_iconst (pc := 2) (v := (4 : Int32)) X.2.2.1 X.2.2.2.1 dX1_areSocks_2 rfl k) ?_
  refine a_callb (pc := 3) (rs := []) (avs := [vI v0, vI (0 : Int32), vI (4 : Int32)]) Z.1 (w_X1_isIn GA v0 (0 : Int32) (4 : Int32)) (Or.inl rfl) q1812 q74 (by decide) (by decide) dX1_areSocks_3 hl.1 (Nat.le_of_ble_eq_true rfl) hf (ct_S X (Or.inl rfl) q1812 q74 q1813 q1811 hy_X1_isIn np_X1_isIn rfl dX1_areSocks_3) (fun q h he hX => a_out (unc_of Z.2.1 rfl) Z.2.2.2.1 he hX) (fun x3 h hf => ?kk3)
  refine AW.eq (g2 := F0 m 6 ls [.int x3]) rfl ?_
  refine AW.lift2 (fun _ _ _ _ k1 k2 => lv_if_eq (pc := 6) (tgt := 22) X.2.2.1 X.2.2.2.1 dX1_areSocks_6 rfl k1 k2) (fun c => ?_) (fun c => ?_)
  · have hf := ite_t c hf
    refine AW.lift (fun _ _ _ _ k => lv_iconst (pc := 22) (v := (0 : Int32)) X.2.2.1 X.2.2.2.1 dX1_areSocks_22 rfl k) ?_
    exact a_zreturn X Z.2.2.1 rfl Z.2.2.2.1 dX1_areSocks_23 hf
  · have hf := ite_f c hf
    refine a_iload_n (pc := 9) X dX1_areSocks_9 rfl hl 1 rfl ?_
    refine AW.lift (fun _ _ _ _ k => lv_iconst (pc := 10) (v := (0 : Int32)) X.2.2.1 X.2.2.2.1 dX1_areSocks_10 rfl k) ?_
    refine AW.lift (fun _ _ _ _ k => lv_iconst (pc := 11) (v := (2 : Int32)) X.2.2.1 X.2.2.2.1 dX1_areSocks_11 rfl k) ?_
    refine a_callb (pc := 12) (rs := []) (avs := [vI v1, vI (0 : Int32), vI (2 : Int32)]) Z.1 (w_X1_isIn GA v1 (0 : Int32) (2 : Int32)) (Or.inl rfl) q1812 q74 (by decide) (by decide) dX1_areSocks_12 hl.1 (Nat.le_of_ble_eq_true rfl) hf (ct_S X (Or.inl rfl) q1812 q74 q1813 q1811 hy_X1_isIn np_X1_isIn rfl dX1_areSocks_12) (fun q h he hX => a_out (unc_of Z.2.1 rfl) Z.2.2.2.1 he hX) (fun x12 h hf => ?kk12)
    refine AW.eq (g2 := F0 m 15 ls [.int x12]) rfl ?_
    refine AW.lift2 (fun _ _ _ _ k1 k2 => lv_if_eq (pc := 15) (tgt := 22) X.2.2.1 X.2.2.2.1 dX1_areSocks_15 rfl k1 k2) (fun c => ?_) (fun c => ?_)
    · have hf := ite_t c hf
      refine AW.lift (fun _ _ _ _ k => lv_iconst (pc := 22) (v := (0 : Int32)) X.2.2.1 X.2.2.2.1 dX1_areSocks_22 rfl k) ?_
      exact a_zreturn X Z.2.2.1 rfl Z.2.2.2.1 dX1_areSocks_23 hf
    · have hf := ite_f c hf
      refine AW.lift (fun _ _ _ _ k => lv_iconst (pc := 18) (v := (1 : Int32)) X.2.2.1 X.2.2.2.1 dX1_areSocks_18 rfl k) ?_
      refine AW.lift (fun _ _ _ _ k => lv_goto (pc := 19) (tgt := 23) X.2.2.1 X.2.2.2.1 dX1_areSocks_19 rfl k) ?_
      exact a_zreturn X Z.2.2.1 rfl Z.2.2.2.1 dX1_areSocks_23 hf
theorem w_X1_stock_j23 {r : Except Nat (Int32) × AH} (GA : GA l s0 a0 K lam) (Z : WZ l s0 a0 K p s m c cX1_stock yX1_stock.cls 4 b R 21 3348 meth [] (some (.int)) yX1_stock) (v0 : Option Nat) (v1 : Int32) (v2 : Int32) (v3 : Int32) (t0 : Int32)  {h : AH} {ls : Array Slot} (hl : LV ls 4 [(0, vR v0), (1, vI v1), (2, vI v2), (3, vI v3)]) (hf : f_X1_stock_j23 K v0 v1 v2 v3 t0 h = some r) : AW s0 K lam p l e R s m args below meth c (AQ s0 K lam below oI b r s) b h (F0 m 23 ls [.int t0]) := by
  unfold f_X1_stock_j23 at hf
  have X := Z.1.1
  refine a_callb (pc := 23) (rs := []) (avs := [vI t0]) Z.1 (w_X1_checkArgument GA t0) (Or.inl rfl) q1880 q74 (by decide) (by decide) dX1_stock_23 hl.1 (Nat.le_of_ble_eq_true rfl) hf (ct_S X (Or.inl rfl) q1880 q74 q1878 q1879 hy_X1_checkArgument np_X1_checkArgument rfl dX1_stock_23) (fun q h he hX => a_out (unc_of Z.2.1 rfl) Z.2.2.2.1 he hX) (fun _ h hf => ?kk23)
  refine AW.eq (g2 := F0 m 26 ls []) rfl ?_
  refine a_aload_n (pc := 26) X dX1_stock_26 rfl hl 0 rfl ?_
  refine a_iload_n (pc := 27) X dX1_stock_27 rfl hl 1 rfl ?_
  refine a_iload_n (pc := 28) X dX1_stock_28 rfl hl 2 rfl ?_
  refine a_iload_n (pc := 29) X dX1_stock_29 rfl hl 3 rfl ?_
  refine a_ndy (pc := 30) (rs := [vR v0]) (avs := [vI v1, vI v2, vI v3]) Z.1 Z.2.2.2.2.2 (siG_214 GA) hfb_14 (lw_all_tbl q3550) ⟨by decide, by decide⟩ rfl rfl rfl (by decide) hl.1 (Nat.le_of_ble_eq_true rfl) (Nat.le_of_ble_eq_true rfl) rfl dX1_stock_30 hf (fun x30 h hf => ?_)
  refine AW.eq (g2 := F0 m 35 ls [va_rf (some x30), va_rf v0]) rfl ?_
  obtain ⟨a35, rfl, ⟨hk, hf⟩ | ⟨-, hf⟩⟩ := dv_some hf
  rotate_left
  · exact fl_none hf
  refine a_callb (pc := 35) (rs := []) (avs := [vR (some a35), vR (some x30)]) Z.1 (w_X1_does GA (some a35) (some x30)) (Or.inr (Or.inl ⟨_, rfl⟩)) q1754 q74 (by decide) (by decide) dX1_stock_35 hl.1 (Nat.le_of_ble_eq_true rfl) hf (ct_V hk ⟨by decide, by decide⟩ X (Or.inr (Or.inl ⟨_, rfl⟩)) q1754 q1751 q1753 pv_4 hy_X1_does np_X1_does rfl dX1_stock_35) (fun q h he hX => a_out (unc_of Z.2.1 rfl) Z.2.2.2.1 he hX) (fun x35 h hf => ?kk35)
  refine AW.eq (g2 := F0 m 38 ls [.int x35]) rfl ?_
  exact a_ireturn X Z.2.2.1 Z.2.2.2.1 dX1_stock_38 hf
theorem w_X1_stock_j22 {r : Except Nat (Int32) × AH} (GA : GA l s0 a0 K lam) (Z : WZ l s0 a0 K p s m c cX1_stock yX1_stock.cls 4 b R 21 3348 meth [] (some (.int)) yX1_stock) (v0 : Option Nat) (v1 : Int32) (v2 : Int32) (v3 : Int32)   {h : AH} {ls : Array Slot} (hl : LV ls 4 [(0, vR v0), (1, vI v1), (2, vI v2), (3, vI v3)]) (hf : f_X1_stock_j22 K v0 v1 v2 v3 h = some r) : AW s0 K lam p l e R s m args below meth c (AQ s0 K lam below oI b r s) b h (F0 m 22 ls []) := by
  unfold f_X1_stock_j22 at hf
  have X := Z.1.1
  refine AW.lift (fun _ _ _ _ k => lv_iconst (pc := 22) (v := (0 : Int32)) X.2.2.1 X.2.2.2.1 dX1_stock_22 rfl k) ?_
  exact w_X1_stock_j23 GA Z v0 v1 v2 v3 (0 : Int32)  (hl.sub [0, 1, 2, 3] rfl) hf
theorem np_X1_stock : npar yX1_stock.desc 3 := by unfold npar; decide +kernel
theorem hy_X1_stock : yX1_stock.cls ≠ "java/lang/invoke/MethodHandle" ∧ yX1_stock.cls ≠ "java/lang/invoke/VarHandle" := by decide +kernel
theorem w_X1_stock (GA : GA l s0 a0 K lam) (v0 : Option Nat) (v1 : Int32) (v2 : Int32) (v3 : Int32) : AMet l s0 K lam yX1_stock (Cond.code yX1_stock cX1_stock (4 : Nat) (Option.some ClassFile.FieldType.int)) 21 3348 [vR v0, vI v1, vI v2, vI v3] oI (f_X1_stock K v0 v1 v2 v3) := by
  refine AMet.of GA.1 (plainFor_of_name (by decide +kernel)) (Nat.le_of_ble_eq_true rfl) ?_
  intro b r hf p e s m args below meth c X hr hlk hnm hnd ht ls hl
  have Z : WZ l s0 a0 K p s m c cX1_stock yX1_stock.cls 4 b { frames := 21, cells := K 0 - aX b, slots := K 1 - aW b, locals := 3348 } 21 3348 meth [] (some (.int)) yX1_stock := ⟨⟨X, GA.2.1, GA.2.2.1, rfl, rfl, Nat.le_refl _, Nat.le_refl _⟩, tab_nil ht, hr, hlk, hnm, hnd⟩
  unfold f_X1_stock at hf
  clear hr hlk hnm hnd ht
  refine a_iload_n (pc := 0) X dX1_stock_0 rfl hl 1 rfl ?_
  refine a_iload_n (pc := 1) X dX1_stock_1 rfl hl 2 rfl ?_
  refine a_callb (pc := 2) (rs := []) (avs := [vI v1, vI v2]) Z.1 (w_X1_areSocks GA v1 v2) (Or.inl rfl) q2225 q74 (by decide) (by decide) dX1_stock_2 hl.1 (Nat.le_of_ble_eq_true rfl) hf (ct_S X (Or.inl rfl) q2225 q74 q2223 q2224 hy_X1_areSocks np_X1_areSocks rfl dX1_stock_2) (fun q h he hX => a_out (unc_of Z.2.1 rfl) Z.2.2.2.1 he hX) (fun x2 h hf => ?kk2)
  refine AW.eq (g2 := F0 m 5 ls [.int x2]) rfl ?_
  refine AW.lift2 (fun _ _ _ _ k1 k2 => lv_if_eq (pc := 5) (tgt := 22) X.2.2.1 X.2.2.2.1 dX1_stock_5 rfl k1 k2) (fun c => ?_) (fun c => ?_)
  · have hf := ite_t c hf
    exact w_X1_stock_j22 GA Z v0 v1 v2 v3   (hl.sub [0, 1, 2, 3] rfl) hf
  · have hf := ite_f c hf
    refine a_iload_n (pc := 8) X dX1_stock_8 rfl hl 3 rfl ?_
    refine AW.lift (fun _ _ _ _ k => lv_iconst (pc := 9) (v := (1 : Int32)) X.2.2.1 X.2.2.2.1 dX1_stock_9 rfl k) ?_
    refine AW.lift (fun _ _ _ _ k => lv_bipush (pc := 10) (v := (99 : Int32)) X.2.2.1 X.2.2.2.1 dX1_stock_10 rfl k) ?_
    refine a_callb (pc := 12) (rs := []) (avs := [vI v3, vI (1 : Int32), vI (99 : Int32)]) Z.1 (w_X1_isIn GA v3 (1 : Int32) (99 : Int32)) (Or.inl rfl) q1812 q74 (by decide) (by decide) dX1_stock_12 hl.1 (Nat.le_of_ble_eq_true rfl) hf (ct_S X (Or.inl rfl) q1812 q74 q1813 q1811 hy_X1_isIn np_X1_isIn rfl dX1_stock_12) (fun q h he hX => a_out (unc_of Z.2.1 rfl) Z.2.2.2.1 he hX) (fun x12 h hf => ?kk12)
    refine AW.eq (g2 := F0 m 15 ls [.int x12]) rfl ?_
    refine AW.lift2 (fun _ _ _ _ k1 k2 => lv_if_eq (pc := 15) (tgt := 22) X.2.2.1 X.2.2.2.1 dX1_stock_15 rfl k1 k2) (fun c => ?_) (fun c => ?_)
    · have hf := ite_t c hf
      exact w_X1_stock_j22 GA Z v0 v1 v2 v3   (hl.sub [0, 1, 2, 3] rfl) hf
    · have hf := ite_f c hf
      refine AW.lift (fun _ _ _ _ k => lv_iconst (pc := 18) (v := (1 : Int32)) X.2.2.1 X.2.2.2.1 dX1_stock_18 rfl k) ?_
      refine AW.lift (fun _ _ _ _ k => lv_goto (pc := 19) (tgt := 23) X.2.2.1 X.2.2.2.1 dX1_stock_19 rfl k) ?_
      exact w_X1_stock_j23 GA Z v0 v1 v2 v3 (1 : Int32)  (hl.sub [0, 1, 2, 3] rfl) hf
theorem np_X0_stock : npar yX0_stock.desc 5 := by unfold npar; decide +kernel
theorem hy_X0_stock : yX0_stock.cls ≠ "java/lang/invoke/MethodHandle" ∧ yX0_stock.cls ≠ "java/lang/invoke/VarHandle" := by decide +kernel
theorem w_X0_stock (GA : GA l s0 a0 K lam) (v0 : Option Nat) (v1 : Int32) (v2 : Int32) (v3 : Int32) (v4 : Option Nat) : AMet l s0 K lam yX0_stock (Cond.codeWith yX0_stock cX0_stock (6 : Nat) (Option.some ClassFile.FieldType.int) [((0 : Nat), (12 : Nat), (15 : Nat), (28 : Nat))]) 22 3371 [vR v0, vI v1, vI v2, vI v3, vR v4] oI (f_X0_stock K v0 v1 v2 v3 v4) := by
  refine AMet.ofW GA.1 (plainFor_of_name (by decide +kernel)) (Nat.le_of_ble_eq_true rfl) ?_
  intro b r hf p e s m args below meth c X hr hlk hnm hnd ht ls hl
  have Z : WZ l s0 a0 K p s m c cX0_stock yX0_stock.cls 6 b { frames := 22, cells := K 0 - aX b, slots := K 1 - aW b, locals := 3371 } 22 3371 meth [(0, 12, 15, 28)] (some (.int)) yX0_stock := ⟨⟨X, GA.2.1, GA.2.2.1, rfl, rfl, Nat.le_refl _, Nat.le_refl _⟩, ht, hr, hlk, hnm, hnd⟩
  unfold f_X0_stock at hf
  clear hr hlk hnm hnd ht
  refine a_aload (pc := 0) X dX0_stock_0 hl 4 rfl ?_
  refine AW.lift (fun _ _ _ _ k => lv_iconst (pc := 2) (v := (0 : Int32)) X.2.2.1 X.2.2.2.1 dX0_stock_2 rfl k) ?_
  refine a_aload_n (pc := 3) X dX0_stock_3 rfl hl 0 rfl ?_
  refine a_iload_n (pc := 4) X dX0_stock_4 rfl hl 1 rfl ?_
  refine a_iload_n (pc := 5) X dX0_stock_5 rfl hl 2 rfl ?_
  refine a_iload_n (pc := 6) X dX0_stock_6 rfl hl 3 rfl ?_
  obtain ⟨a7, rfl, ⟨hk, hf⟩ | ⟨-, hf⟩⟩ := dv_tsome hf
  rotate_left
  · exact fl_tnone hf
  refine a_callt (pc := 7) (rs := [vI (0 : Int32), vR v4]) (avs := [vR (some a7), vI v1, vI v2, vI v3]) Z.1 (w_X1_stock GA (some a7) v1 v2 v3) (Or.inl rfl) q2222 q74 (by decide) (by decide) dX0_stock_7 hl.1 (Nat.le_of_ble_eq_true rfl) hf (ct_V hk ⟨by decide, by decide⟩ X (Or.inl rfl) q2222 q2219 q2220 q2221 hy_X1_stock np_X1_stock rfl dX0_stock_7) (fun q h hf hX => ?hx7) (fun x7 h hf => ?kk7)
  case hx7 =>
    rcases ctc_some hf with ⟨hy, hf⟩ | ⟨hn0, hf⟩
    · refine a_catchH (st := 0) (en := 12) (hp := 15) (ct := 28) (pre := []) (suf := []) X hX Z.2.1 rfl (fun z hz => nomatch hz) (by decide) (Or.inr ⟨by decide, _, gw X.1 X.2.1 q1873, (cs_X17 GA) _ hy⟩) (AW.eq (g2 := F0 m 15 ls [va_rf (some q)]) rfl ?_)
      refine a_astore (pc := 15) X dX0_stock_15 hl (by decide) (lv' := [(5, vR (some q)), (0, vR (some a7)), (1, vI v1), (2, vI v2), (3, vI v3), (4, vR v4)]) rfl (fun ls hl => ?_)
      refine AW.lift (fun _ _ _ _ k => lv_iconst (pc := 17) (v := (1 : Int32)) X.2.2.1 X.2.2.2.1 dX0_stock_17 rfl k) ?_
      exact a_ireturn X Z.2.2.1 Z.2.2.2.1 dX0_stock_18 hf
    · skip
      exact a_outH X Z.2.1 (by intro z hz; simp only [List.mem_cons, List.not_mem_nil, or_false] at hz; rcases hz with rfl <;> first | exact Or.inl (by decide) | exact Or.inr ⟨by decide, _, gw X.1 X.2.1 q1873, (nc_12_13_14_16_18_19_20_21_java_lang_IllegalArgumentException GA _ (by simpa using hn0)).2.2⟩) Z.2.2.2.1 (th_eq hf) hX
  refine AW.eq (g2 := F0 m 10 ls [.int x7, .int (0 : Int32), va_rf v4]) rfl ?_
  refine AW.lift (fun _ _ _ _ k => lv_i2l (pc := 10) X.2.2.1 X.2.2.2.1 dX0_stock_10 rfl k) ?_
  refine a_lastore (pc := 11) X dX0_stock_11 hf (fun h hf => ?_)
  refine AW.lift (fun _ _ _ _ k => lv_goto (pc := 12) (tgt := 19) X.2.2.1 X.2.2.2.1 dX0_stock_12 rfl k) ?_
  refine AW.lift (fun _ _ _ _ k => lv_iconst (pc := 19) (v := (0 : Int32)) X.2.2.1 X.2.2.2.1 dX0_stock_19 rfl k) ?_
  exact a_ireturn X Z.2.2.1 Z.2.2.2.1 dX0_stock_20 hf
theorem np_X4_isSock : npar yX4_isSock.desc 2 := by unfold npar; decide +kernel
theorem hy_X4_isSock : yX4_isSock.cls ≠ "java/lang/invoke/MethodHandle" ∧ yX4_isSock.cls ≠ "java/lang/invoke/VarHandle" := by decide +kernel
theorem w_X4_isSock (GA : GA l s0 a0 K lam) (v0 : Int32) (v1 : Int32) : AMet l s0 K lam yX4_isSock (Cond.code yX4_isSock cX4_isSock (2 : Nat) (Option.some ClassFile.FieldType.boolean)) 1 25 [vI v0, vI v1] oI (f_X4_isSock K v0 v1) := by
  refine AMet.of GA.1 (plainFor_of_name (by decide +kernel)) (Nat.le_of_ble_eq_true rfl) ?_
  intro b r hf p e s m args below meth c X hr hlk hnm hnd ht ls hl
  have Z : WZ l s0 a0 K p s m c cX4_isSock yX4_isSock.cls 2 b { frames := 1, cells := K 0 - aX b, slots := K 1 - aW b, locals := 25 } 1 25 meth [] (some (.boolean)) yX4_isSock := ⟨⟨X, GA.2.1, GA.2.2.1, rfl, rfl, Nat.le_refl _, Nat.le_refl _⟩, tab_nil ht, hr, hlk, hnm, hnd⟩
  unfold f_X4_isSock at hf
  clear hr hlk hnm hnd ht
  refine a_iload_n (pc := 0) X dX4_isSock_0 rfl hl 0 rfl ?_
  refine AW.lift (fun _ _ _ _ k => lv_i2l (pc := 1) X.2.2.1 X.2.2.2.1 dX4_isSock_1 rfl k) ?_
  refine AW.lift (fun _ _ _ _ k => lv_lconst (pc := 2) (v := (0 : Int64)) X.2.2.1 X.2.2.2.1 dX4_isSock_2 rfl k) ?_
  refine AW.lift (fun _ _ _ _ k => lv_ldc2 (pc := 3) X.2.2.1 X.2.2.2.1 X.2.2.2.2.1 (gw X.1 X.2.1 q3205) dX4_isSock_3 k) ?_
  refine a_callb (pc := 6) (rs := []) (avs := [vJ (v0.toInt64), vJ (0 : Int64), vJ (4 : Int64)]) Z.1 (w_X4_in GA (v0.toInt64) (0 : Int64) (4 : Int64)) (Or.inl rfl) q3142 q86 (by decide) (by decide) dX4_isSock_6 hl.1 (Nat.le_of_ble_eq_true rfl) hf (ct_S X (Or.inl rfl) q3142 q86 q3140 q3141 hy_X4_in np_X4_in rfl dX4_isSock_6) (fun q h he hX => a_out (unc_of Z.2.1 rfl) Z.2.2.2.1 he hX) (fun x6 h hf => ?kk6)
  refine AW.eq (g2 := F0 m 9 ls [.int x6]) rfl ?_
  refine AW.lift2 (fun _ _ _ _ k1 k2 => lv_if_eq (pc := 9) (tgt := 28) X.2.2.1 X.2.2.2.1 dX4_isSock_9 rfl k1 k2) (fun c => ?_) (fun c => ?_)
  · have hf := ite_t c hf
    refine AW.lift (fun _ _ _ _ k => lv_iconst (pc := 28) (v := (0 : Int32)) X.2.2.1 X.2.2.2.1 dX4_isSock_28 rfl k) ?_
    exact a_zreturn X Z.2.2.1 rfl Z.2.2.2.1 dX4_isSock_29 hf
  · have hf := ite_f c hf
    refine a_iload_n (pc := 12) X dX4_isSock_12 rfl hl 1 rfl ?_
    refine AW.lift (fun _ _ _ _ k => lv_i2l (pc := 13) X.2.2.1 X.2.2.2.1 dX4_isSock_13 rfl k) ?_
    refine AW.lift (fun _ _ _ _ k => lv_lconst (pc := 14) (v := (0 : Int64)) X.2.2.1 X.2.2.2.1 dX4_isSock_14 rfl k) ?_
    refine AW.lift (fun _ _ _ _ k => lv_ldc2 (pc := 15) X.2.2.1 X.2.2.2.1 X.2.2.2.2.1 (gw X.1 X.2.1 q3253) dX4_isSock_15 k) ?_
    refine a_callb (pc := 18) (rs := []) (avs := [vJ (v1.toInt64), vJ (0 : Int64), vJ (2 : Int64)]) Z.1 (w_X4_in GA (v1.toInt64) (0 : Int64) (2 : Int64)) (Or.inl rfl) q3142 q86 (by decide) (by decide) dX4_isSock_18 hl.1 (Nat.le_of_ble_eq_true rfl) hf (ct_S X (Or.inl rfl) q3142 q86 q3140 q3141 hy_X4_in np_X4_in rfl dX4_isSock_18) (fun q h he hX => a_out (unc_of Z.2.1 rfl) Z.2.2.2.1 he hX) (fun x18 h hf => ?kk18)
    refine AW.eq (g2 := F0 m 21 ls [.int x18]) rfl ?_
    refine AW.lift2 (fun _ _ _ _ k1 k2 => lv_if_eq (pc := 21) (tgt := 28) X.2.2.1 X.2.2.2.1 dX4_isSock_21 rfl k1 k2) (fun c => ?_) (fun c => ?_)
    · have hf := ite_t c hf
      refine AW.lift (fun _ _ _ _ k => lv_iconst (pc := 28) (v := (0 : Int32)) X.2.2.1 X.2.2.2.1 dX4_isSock_28 rfl k) ?_
      exact a_zreturn X Z.2.2.1 rfl Z.2.2.2.1 dX4_isSock_29 hf
    · have hf := ite_f c hf
      refine AW.lift (fun _ _ _ _ k => lv_iconst (pc := 24) (v := (1 : Int32)) X.2.2.1 X.2.2.2.1 dX4_isSock_24 rfl k) ?_
      refine AW.lift (fun _ _ _ _ k => lv_goto (pc := 25) (tgt := 29) X.2.2.1 X.2.2.2.1 dX4_isSock_25 rfl k) ?_
      exact a_zreturn X Z.2.2.1 rfl Z.2.2.2.1 dX4_isSock_29 hf
theorem w_X4_stock_j24 {r : Except Nat (Int32) × AH} (GA : GA l s0 a0 K lam) (Z : WZ l s0 a0 K p s m c cX4_stock yX4_stock.cls 5 b R 2 46 meth [] (some (.int)) yX4_stock) (v0 : Option Nat)   {h : AH} {ls : Array Slot} (hl : LV ls 5 [(0, vR v0)]) (hf : f_X4_stock_j24 K v0 h = some r) : AW s0 K lam p l e R s m args below meth c (AQ s0 K lam below oI b r s) b h (F0 m 24 ls []) := by
  unfold f_X4_stock_j24 at hf
  have X := Z.1.1
  refine a_aload_n (pc := 24) X dX4_stock_24 rfl hl 0 rfl ?_
  refine AW.lift (fun _ _ _ _ k => lv_iconst (pc := 25) (v := (1 : Int32)) X.2.2.1 X.2.2.2.1 dX4_stock_25 rfl k) ?_
  obtain ⟨a26, rfl, ⟨hk, hf⟩ | ⟨-, hf⟩⟩ := dv_some hf
  rotate_left
  · exact fl_none hf
  refine a_callb (pc := 26) (rs := []) (avs := [vR (some a26), vI (1 : Int32)]) Z.1 (w_X4_throwing GA (some a26) (1 : Int32)) (Or.inl rfl) q3120 q86 (by decide) (by decide) dX4_stock_26 hl.1 (Nat.le_of_ble_eq_true rfl) hf (ct_V hk ⟨by decide, by decide⟩ X (Or.inl rfl) q3120 q3117 q3119 pv_30 hy_X4_throwing np_X4_throwing rfl dX4_stock_26) (fun q h he hX => a_out (unc_of Z.2.1 rfl) Z.2.2.2.1 he hX) (fun x26 h hf => ?kk26)
  refine AW.eq (g2 := F0 m 29 ls [.int x26]) rfl ?_
  exact a_ireturn X Z.2.2.1 Z.2.2.2.1 dX4_stock_29 hf
theorem np_X4_stock : npar yX4_stock.desc 3 := by unfold npar; decide +kernel
theorem hy_X4_stock : yX4_stock.cls ≠ "java/lang/invoke/MethodHandle" ∧ yX4_stock.cls ≠ "java/lang/invoke/VarHandle" := by decide +kernel
theorem w_X4_stock (GA : GA l s0 a0 K lam) (v0 : Option Nat) (v1 : Int32) (v2 : Int32) (v3 : Int32) : AMet l s0 K lam yX4_stock (Cond.code yX4_stock cX4_stock (5 : Nat) (Option.some ClassFile.FieldType.int)) 2 46 [vR v0, vI v1, vI v2, vI v3] oI (f_X4_stock K v0 v1 v2 v3) := by
  refine AMet.of GA.1 (plainFor_of_name (by decide +kernel)) (Nat.le_of_ble_eq_true rfl) ?_
  intro b r hf p e s m args below meth c X hr hlk hnm hnd ht ls hl
  have Z : WZ l s0 a0 K p s m c cX4_stock yX4_stock.cls 5 b { frames := 2, cells := K 0 - aX b, slots := K 1 - aW b, locals := 46 } 2 46 meth [] (some (.int)) yX4_stock := ⟨⟨X, GA.2.1, GA.2.2.1, rfl, rfl, Nat.le_refl _, Nat.le_refl _⟩, tab_nil ht, hr, hlk, hnm, hnd⟩
  unfold f_X4_stock at hf
  clear hr hlk hnm hnd ht
  refine a_aload_n (pc := 0) X dX4_stock_0 rfl hl 0 rfl ?_
  obtain ⟨a1, rfl, ⟨hk, hf⟩ | ⟨-, hf⟩⟩ := dv_some hf
  rotate_left
  · exact fl_none hf
  refine a_callb (pc := 1) (rs := []) (avs := [vR (some a1)]) Z.1 (w_X4_layAside GA (some a1)) (Or.inl rfl) q3112 q86 (by decide) (by decide) dX4_stock_1 hl.1 (Nat.le_of_ble_eq_true rfl) hf (ct_V hk ⟨by decide, by decide⟩ X (Or.inl rfl) q3112 q3109 q3111 pv_28 hy_X4_layAside np_X4_layAside rfl dX4_stock_1) (fun q h he hX => a_out (unc_of Z.2.1 rfl) Z.2.2.2.1 he hX) (fun _ h hf => ?kk1)
  refine AW.eq (g2 := F0 m 4 ls []) rfl ?_
  refine a_iload_n (pc := 4) X dX4_stock_4 rfl hl 1 rfl ?_
  refine a_iload_n (pc := 5) X dX4_stock_5 rfl hl 2 rfl ?_
  refine a_callb (pc := 6) (rs := []) (avs := [vI v1, vI v2]) Z.1 (w_X4_isSock GA v1 v2) (Or.inl rfl) q3252 q86 (by decide) (by decide) dX4_stock_6 hl.1 (Nat.le_of_ble_eq_true rfl) hf (ct_S X (Or.inl rfl) q3252 q86 q3250 q3251 hy_X4_isSock np_X4_isSock rfl dX4_stock_6) (fun q h he hX => a_out (unc_of Z.2.1 rfl) Z.2.2.2.1 he hX) (fun x6 h hf => ?kk6)
  refine AW.eq (g2 := F0 m 9 ls [.int x6]) rfl ?_
  refine AW.lift2 (fun _ _ _ _ k1 k2 => lv_if_eq (pc := 9) (tgt := 24) X.2.2.1 X.2.2.2.1 dX4_stock_9 rfl k1 k2) (fun c => ?_) (fun c => ?_)
  · have hf := ite_t c hf
    exact w_X4_stock_j24 GA Z (some a1)   (hl.sub [0] rfl) hf
  · have hf := ite_f c hf
    refine a_iload_n (pc := 12) X dX4_stock_12 rfl hl 3 rfl ?_
    refine AW.lift (fun _ _ _ _ k => lv_i2l (pc := 13) X.2.2.1 X.2.2.2.1 dX4_stock_13 rfl k) ?_
    refine AW.lift (fun _ _ _ _ k => lv_lconst (pc := 14) (v := (1 : Int64)) X.2.2.1 X.2.2.2.1 dX4_stock_14 rfl k) ?_
    refine AW.lift (fun _ _ _ _ k => lv_ldc2 (pc := 15) X.2.2.1 X.2.2.2.1 X.2.2.2.2.1 (gw X.1 X.2.1 q3204) dX4_stock_15 k) ?_
    refine a_callb (pc := 18) (rs := []) (avs := [vJ (v3.toInt64), vJ (1 : Int64), vJ (99 : Int64)]) Z.1 (w_X4_in GA (v3.toInt64) (1 : Int64) (99 : Int64)) (Or.inl rfl) q3142 q86 (by decide) (by decide) dX4_stock_18 hl.1 (Nat.le_of_ble_eq_true rfl) hf (ct_S X (Or.inl rfl) q3142 q86 q3140 q3141 hy_X4_in np_X4_in rfl dX4_stock_18) (fun q h he hX => a_out (unc_of Z.2.1 rfl) Z.2.2.2.1 he hX) (fun x18 h hf => ?kk18)
    refine AW.eq (g2 := F0 m 21 ls [.int x18]) rfl ?_
    refine AW.lift2 (fun _ _ _ _ k1 k2 => lv_if_ne (pc := 21) (tgt := 30) X.2.2.1 X.2.2.2.1 dX4_stock_21 rfl k2 k1) (fun c => ?_) (fun c => ?_)
    · have hf := ite_t c hf
      exact w_X4_stock_j24 GA Z (some a1)   (hl.sub [0] rfl) hf
    · have hf := ite_f c hf
      refine AW.lift (fun _ _ _ _ k => lv_sipush (pc := 30) (v := (152 : Int32)) X.2.2.1 X.2.2.2.1 dX4_stock_30 rfl k) ?_
      refine AW.lift (fun _ _ _ _ k => lv_iconst (pc := 33) (v := (3 : Int32)) X.2.2.1 X.2.2.2.1 dX4_stock_33 rfl k) ?_
      refine a_iload_n (pc := 34) X dX4_stock_34 rfl hl 1 rfl ?_
      refine AW.lift (fun _ _ _ _ k => lv_imul (pc := 35) X.2.2.1 X.2.2.2.1 dX4_stock_35 k) ?_
      refine AW.lift (fun _ _ _ _ k => lv_iadd (pc := 36) X.2.2.1 X.2.2.2.1 dX4_stock_36 k) ?_
      refine a_iload_n (pc := 37) X dX4_stock_37 rfl hl 2 rfl ?_
      refine AW.lift (fun _ _ _ _ k => lv_iadd (pc := 38) X.2.2.1 X.2.2.2.1 dX4_stock_38 k) ?_
      refine a_istore (pc := 39) X dX4_stock_39 hl (by decide) (lv' := [(4, vI (((152 : Int32) + ((3 : Int32) * v1)) + v2)), (0, vR (some a1)), (1, vI v1), (2, vI v2), (3, vI v3)]) rfl (fun ls hl => ?_)
      refine a_aload_n (pc := 41) X dX4_stock_41 rfl hl 1 rfl ?_
      refine a_get (pc := 42) (φ := 100) pR_t X Z.1.2.1 (gw X.1 X.2.1 q3025) (fun _ q => q) (by decide) dX4_stock_42 hf (fun x42 hf => ?_)
      refine a_iload (pc := 45) X dX4_stock_45 hl 0 rfl ?_
      refine AW.lift (fun _ _ _ _ k => lv_bipush (pc := 47) (v := (99 : Int32)) X.2.2.1 X.2.2.2.1 dX4_stock_47 rfl k) ?_
      refine a_aload_n (pc := 49) X dX4_stock_49 rfl hl 1 rfl ?_
      refine a_get (pc := 50) (φ := 100) pR_t X Z.1.2.1 (gw X.1 X.2.1 q3025) (fun _ q => q) (by decide) dX4_stock_50 hf (fun x50 hf => ?_)
      refine a_iload (pc := 53) X dX4_stock_53 hl 0 rfl ?_
      refine a_iaload (pc := 55) X dX4_stock_55 hf (fun x55 hf => ?_)
      refine a_iload_n (pc := 56) X dX4_stock_56 rfl hl 4 rfl ?_
      refine AW.lift (fun _ _ _ _ k => lv_iadd (pc := 57) X.2.2.1 X.2.2.2.1 dX4_stock_57 k) ?_
      refine AW.lift_c Z.1 (fun _ _ _ _ hc hs k => va_mmin (pc := 58) X.2.2.1 X.2.2.2.1 (X.2.2.2.2.2.trans hl.1.symm) X.2.2.2.2.1 (gw X.1 X.2.1 q3254) (gw X.1 X.2.1 q583) (gw X.1 X.2.1 q93) (gw X.1 X.2.1 q584) (Nat.le_trans (by decide) Z.1.2.2.2.2.2.1) (cat_le (rs := [vI (((152 : Int32) + ((3 : Int32) * v1)) + v2), vR x42]) (Nat.le_of_ble_eq_true rfl) Z.1.2.2.2.2.2.2) hc hs dX4_stock_58 k) ?_
      refine AW.eq (g2 := F0 m 61 ls [.int (if (x55 + v3) < (99 : Int32) then (x55 + v3) else (99 : Int32)), .int (((152 : Int32) + ((3 : Int32) * v1)) + v2), va_rf x42]) rfl ?_
      refine a_iastore (pc := 61) X dX4_stock_61 hf (fun h hf => ?_)
      refine a_aload_n (pc := 62) X dX4_stock_62 rfl hl 1 rfl ?_
      refine a_aload_n (pc := 63) X dX4_stock_63 rfl hl 1 rfl ?_
      refine a_get (pc := 64) (φ := 100) pR_t X Z.1.2.1 (gw X.1 X.2.1 q3025) (fun _ q => q) (by decide) dX4_stock_64 hf (fun x64 hf => ?_)
      refine a_iload (pc := 67) X dX4_stock_67 hl 0 rfl ?_
      refine a_iaload (pc := 69) X dX4_stock_69 hf (fun x69 hf => ?_)
      rcases dv_someS hf with ⟨hk, hf⟩ | ⟨-, hf⟩
      rotate_left
      · exact fl_none hf
      refine a_callb (pc := 70) (rs := []) (avs := [vR (some a1), vI x69]) Z.1 (w_X4_changed GA (some a1) x69) (Or.inl rfl) q3127 q86 (by decide) (by decide) dX4_stock_70 hl.1 (Nat.le_of_ble_eq_true rfl) hf (ct_V hk ⟨by decide, by decide⟩ X (Or.inl rfl) q3127 q3124 q3126 pv_31 hy_X4_changed np_X4_changed rfl dX4_stock_70) (fun q h he hX => a_out (unc_of Z.2.1 rfl) Z.2.2.2.1 he hX) (fun x70 h hf => ?kk70)
      refine AW.eq (g2 := F0 m 73 ls [.int x70]) rfl ?_
      exact a_ireturn X Z.2.2.1 Z.2.2.2.1 dX4_stock_73 hf
theorem np_X1_sell : npar yX1_sell.desc 2 := by unfold npar; decide +kernel
theorem hy_X1_sell : yX1_sell.cls ≠ "java/lang/invoke/MethodHandle" ∧ yX1_sell.cls ≠ "java/lang/invoke/VarHandle" := by decide +kernel
theorem w_X1_sell (GA : GA l s0 a0 K lam) (v0 : Option Nat) (v1 : Int32) (v2 : Int32) : AMet l s0 K lam yX1_sell (Cond.code yX1_sell cX1_sell (4 : Nat) (Option.some ClassFile.FieldType.int)) 21 3348 [vR v0, vI v1, vI v2] oI (f_X1_sell K v0 v1 v2) := by
  refine AMet.of GA.1 (plainFor_of_name (by decide +kernel)) (Nat.le_of_ble_eq_true rfl) ?_
  intro b r hf p e s m args below meth c X hr hlk hnm hnd ht ls hl
  have Z : WZ l s0 a0 K p s m c cX1_sell yX1_sell.cls 4 b { frames := 21, cells := K 0 - aX b, slots := K 1 - aW b, locals := 3348 } 21 3348 meth [] (some (.int)) yX1_sell := ⟨⟨X, GA.2.1, GA.2.2.1, rfl, rfl, Nat.le_refl _, Nat.le_refl _⟩, tab_nil ht, hr, hlk, hnm, hnd⟩
  unfold f_X1_sell at hf
  clear hr hlk hnm hnd ht
  refine a_aload_n (pc := 0) X dX1_sell_0 rfl hl 0 rfl ?_
  refine a_iload_n (pc := 1) X dX1_sell_1 rfl hl 1 rfl ?_
  obtain ⟨a2, rfl, ⟨hk, hf⟩ | ⟨-, hf⟩⟩ := dv_some hf
  rotate_left
  · exact fl_none hf
  refine a_callb (pc := 2) (rs := []) (avs := [vR (some a2), vI v1]) Z.1 (w_X1_jumperAt GA (some a2) v1) (Or.inl rfl) q2185 q74 (by decide) (by decide) dX1_sell_2 hl.1 (Nat.le_of_ble_eq_true rfl) hf (ct_V hk ⟨by decide, by decide⟩ X (Or.inl rfl) q2185 q2182 q2184 pv_9 hy_X1_jumperAt np_X1_jumperAt rfl dX1_sell_2) (fun q h he hX => a_out (unc_of Z.2.1 rfl) Z.2.2.2.1 he hX) (fun x2 h hf => ?kk2)
  refine AW.eq (g2 := F0 m 5 ls [va_rf x2]) rfl ?_
  refine a_astore_n (pc := 5) X dX1_sell_5 rfl hl (by decide) (lv' := [(3, vR x2), (0, vR (some a2)), (1, vI v1), (2, vI v2)]) rfl (fun ls hl => ?_)
  refine a_iload_n (pc := 6) X dX1_sell_6 rfl hl 3 rfl ?_
  refine AW.lift (fun _ _ _ _ k => lv_iconst (pc := 7) (v := (0 : Int32)) X.2.2.1 X.2.2.2.1 dX1_sell_7 rfl k) ?_
  refine AW.lift (fun _ _ _ _ k => lv_iconst (pc := 8) (v := (2 : Int32)) X.2.2.1 X.2.2.2.1 dX1_sell_8 rfl k) ?_
  refine a_callb (pc := 9) (rs := []) (avs := [vI v2, vI (0 : Int32), vI (2 : Int32)]) Z.1 (w_X1_isIn GA v2 (0 : Int32) (2 : Int32)) (Or.inl rfl) q1812 q74 (by decide) (by decide) dX1_sell_9 hl.1 (Nat.le_of_ble_eq_true rfl) hf (ct_S X (Or.inl rfl) q1812 q74 q1813 q1811 hy_X1_isIn np_X1_isIn rfl dX1_sell_9) (fun q h he hX => a_out (unc_of Z.2.1 rfl) Z.2.2.2.1 he hX) (fun x9 h hf => ?kk9)
  refine AW.eq (g2 := F0 m 12 ls [.int x9]) rfl ?_
  refine a_callb (pc := 12) (rs := []) (avs := [vI x9]) Z.1 (w_X1_checkArgument GA x9) (Or.inl rfl) q1880 q74 (by decide) (by decide) dX1_sell_12 hl.1 (Nat.le_of_ble_eq_true rfl) hf (ct_S X (Or.inl rfl) q1880 q74 q1878 q1879 hy_X1_checkArgument np_X1_checkArgument rfl dX1_sell_12) (fun q h he hX => a_out (unc_of Z.2.1 rfl) Z.2.2.2.1 he hX) (fun _ h hf => ?kk12)
  refine AW.eq (g2 := F0 m 15 ls []) rfl ?_
  refine a_aload_n (pc := 15) X dX1_sell_15 rfl hl 1 rfl ?_
  refine a_iload_n (pc := 16) X dX1_sell_16 rfl hl 2 rfl ?_
  refine a_iload_n (pc := 17) X dX1_sell_17 rfl hl 3 rfl ?_
  refine a_ndy (pc := 18) (rs := [vR (some a2)]) (avs := [vI v1, vI v2]) Z.1 Z.2.2.2.2.2 (siG_215 GA) hfb_15 (lw_all_tbl q3550) ⟨by decide, by decide⟩ rfl rfl rfl (by decide) hl.1 (Nat.le_of_ble_eq_true rfl) (Nat.le_of_ble_eq_true rfl) rfl dX1_sell_18 hf (fun x18 h hf => ?_)
  refine AW.eq (g2 := F0 m 23 ls [va_rf (some x18), va_rf (some a2)]) rfl ?_
  rcases dv_someS hf with ⟨hk, hf⟩ | ⟨-, hf⟩
  rotate_left
  · exact fl_none hf
  refine a_callb (pc := 23) (rs := []) (avs := [vR (some a2), vR (some x18)]) Z.1 (w_X1_does GA (some a2) (some x18)) (Or.inr (Or.inl ⟨_, rfl⟩)) q1754 q74 (by decide) (by decide) dX1_sell_23 hl.1 (Nat.le_of_ble_eq_true rfl) hf (ct_V hk ⟨by decide, by decide⟩ X (Or.inr (Or.inl ⟨_, rfl⟩)) q1754 q1751 q1753 pv_4 hy_X1_does np_X1_does rfl dX1_sell_23) (fun q h he hX => a_out (unc_of Z.2.1 rfl) Z.2.2.2.1 he hX) (fun x23 h hf => ?kk23)
  refine AW.eq (g2 := F0 m 26 ls [.int x23]) rfl ?_
  exact a_ireturn X Z.2.2.1 Z.2.2.2.1 dX1_sell_26 hf
theorem np_X0_sell : npar yX0_sell.desc 4 := by unfold npar; decide +kernel
theorem hy_X0_sell : yX0_sell.cls ≠ "java/lang/invoke/MethodHandle" ∧ yX0_sell.cls ≠ "java/lang/invoke/VarHandle" := by decide +kernel
theorem w_X0_sell (GA : GA l s0 a0 K lam) (v0 : Option Nat) (v1 : Int32) (v2 : Int32) (v3 : Option Nat) : AMet l s0 K lam yX0_sell (Cond.codeWith yX0_sell cX0_sell (5 : Nat) (Option.some ClassFile.FieldType.int) [((0 : Nat), (10 : Nat), (13 : Nat), (19 : Nat)), ((0 : Nat), (10 : Nat), (17 : Nat), (28 : Nat)), ((0 : Nat), (10 : Nat), (21 : Nat), (13 : Nat))]) 22 3371 [vR v0, vI v1, vI v2, vR v3] oI (f_X0_sell K v0 v1 v2 v3) := by
  refine AMet.ofW GA.1 (plainFor_of_name (by decide +kernel)) (Nat.le_of_ble_eq_true rfl) ?_
  intro b r hf p e s m args below meth c X hr hlk hnm hnd ht ls hl
  have Z : WZ l s0 a0 K p s m c cX0_sell yX0_sell.cls 5 b { frames := 22, cells := K 0 - aX b, slots := K 1 - aW b, locals := 3371 } 22 3371 meth [(0, 10, 13, 19), (0, 10, 17, 28), (0, 10, 21, 13)] (some (.int)) yX0_sell := ⟨⟨X, GA.2.1, GA.2.2.1, rfl, rfl, Nat.le_refl _, Nat.le_refl _⟩, ht, hr, hlk, hnm, hnd⟩
  unfold f_X0_sell at hf
  clear hr hlk hnm hnd ht
  refine a_aload_n (pc := 0) X dX0_sell_0 rfl hl 3 rfl ?_
  refine AW.lift (fun _ _ _ _ k => lv_iconst (pc := 1) (v := (0 : Int32)) X.2.2.1 X.2.2.2.1 dX0_sell_1 rfl k) ?_
  refine a_aload_n (pc := 2) X dX0_sell_2 rfl hl 0 rfl ?_
  refine a_iload_n (pc := 3) X dX0_sell_3 rfl hl 1 rfl ?_
  refine a_iload_n (pc := 4) X dX0_sell_4 rfl hl 2 rfl ?_
  obtain ⟨a5, rfl, ⟨hk, hf⟩ | ⟨-, hf⟩⟩ := dv_tsome hf
  rotate_left
  · exact fl_tnone hf
  refine a_callt (pc := 5) (rs := [vI (0 : Int32), vR v3]) (avs := [vR (some a5), vI v1, vI v2]) Z.1 (w_X1_sell GA (some a5) v1 v2) (Or.inl rfl) q2280 q74 (by decide) (by decide) dX0_sell_5 hl.1 (Nat.le_of_ble_eq_true rfl) hf (ct_V hk ⟨by decide, by decide⟩ X (Or.inl rfl) q2280 q2277 q2278 q2279 hy_X1_sell np_X1_sell rfl dX0_sell_5) (fun q h hf hX => ?hx5) (fun x5 h hf => ?kk5)
  case hx5 =>
    rcases ctc_some hf with ⟨hy, hf⟩ | ⟨hn0, hf⟩
    · refine a_catchH (st := 0) (en := 10) (hp := 13) (ct := 19) (pre := []) (suf := [(0, 10, 17, 28), (0, 10, 21, 13)]) X hX Z.2.1 rfl (fun z hz => nomatch hz) (by decide) (Or.inr ⟨by decide, _, gw X.1 X.2.1 q1786, (cs_X19 GA) _ hy⟩) (AW.eq (g2 := F0 m 13 ls [va_rf (some q)]) rfl ?_)
      refine a_astore (pc := 13) X dX0_sell_13 hl (by decide) (lv' := [(4, vR (some q)), (0, vR (some a5)), (1, vI v1), (2, vI v2), (3, vR v3)]) rfl (fun ls hl => ?_)
      refine AW.lift (fun _ _ _ _ k => lv_iconst (pc := 15) (v := (1 : Int32)) X.2.2.1 X.2.2.2.1 dX0_sell_15 rfl k) ?_
      exact a_ireturn X Z.2.2.1 Z.2.2.2.1 dX0_sell_16 hf
    · skip
      rcases ctc_some hf with ⟨hy, hf⟩ | ⟨hn1, hf⟩
      · refine a_catchH (st := 0) (en := 10) (hp := 17) (ct := 28) (pre := [(0, 10, 13, 19)]) (suf := [(0, 10, 21, 13)]) X hX Z.2.1 rfl (by intro z hz; simp only [List.mem_cons, List.not_mem_nil, or_false] at hz; rcases hz with rfl <;> first | exact Or.inl (by decide) | exact Or.inr ⟨by decide, _, gw X.1 X.2.1 q1786, (nc_12_13_14_16_17_18_20_21_java_lang_IndexOutOfBoundsException GA _ (by simpa using hn0)).2.2⟩) (by decide) (Or.inr ⟨by decide, _, gw X.1 X.2.1 q1873, (cs_X17 GA) _ hy⟩) (AW.eq (g2 := F0 m 17 ls [va_rf (some q)]) rfl ?_)
        refine a_astore (pc := 17) X dX0_sell_17 hl (by decide) (lv' := [(4, vR (some q)), (0, vR (some a5)), (1, vI v1), (2, vI v2), (3, vR v3)]) rfl (fun ls hl => ?_)
        refine AW.lift (fun _ _ _ _ k => lv_iconst (pc := 19) (v := (2 : Int32)) X.2.2.1 X.2.2.2.1 dX0_sell_19 rfl k) ?_
        exact a_ireturn X Z.2.2.1 Z.2.2.2.1 dX0_sell_20 hf
      · skip
        rcases ctc_some hf with ⟨hy, hf⟩ | ⟨hn2, hf⟩
        · refine a_catchH (st := 0) (en := 10) (hp := 21) (ct := 13) (pre := [(0, 10, 13, 19), (0, 10, 17, 28)]) (suf := []) X hX Z.2.1 rfl (by intro z hz; simp only [List.mem_cons, List.not_mem_nil, or_false] at hz; rcases hz with rfl | rfl <;> first | exact Or.inl (by decide) | exact Or.inr ⟨by decide, _, gw X.1 X.2.1 q1786, (nc_12_13_14_16_17_18_20_21_java_lang_IndexOutOfBoundsException GA _ (by simpa using hn0)).2.2⟩ | exact Or.inr ⟨by decide, _, gw X.1 X.2.1 q1873, (nc_12_13_14_16_18_19_20_21_java_lang_IllegalArgumentException GA _ (by simpa using hn1)).2.2⟩) (by decide) (Or.inr ⟨by decide, _, gw X.1 X.2.1 q1709, (cs_X21 GA) _ hy⟩) (AW.eq (g2 := F0 m 21 ls [va_rf (some q)]) rfl ?_)
          refine a_astore (pc := 21) X dX0_sell_21 hl (by decide) (lv' := [(4, vR (some q)), (0, vR (some a5)), (1, vI v1), (2, vI v2), (3, vR v3)]) rfl (fun ls hl => ?_)
          refine AW.lift (fun _ _ _ _ k => lv_iconst (pc := 23) (v := (3 : Int32)) X.2.2.1 X.2.2.2.1 dX0_sell_23 rfl k) ?_
          exact a_ireturn X Z.2.2.1 Z.2.2.2.1 dX0_sell_24 hf
        · skip
          exact a_outH X Z.2.1 (by intro z hz; simp only [List.mem_cons, List.not_mem_nil, or_false] at hz; rcases hz with rfl | rfl | rfl <;> first | exact Or.inl (by decide) | exact Or.inr ⟨by decide, _, gw X.1 X.2.1 q1786, (nc_12_13_14_16_17_18_20_21_java_lang_IndexOutOfBoundsException GA _ (by simpa using hn0)).2.2⟩ | exact Or.inr ⟨by decide, _, gw X.1 X.2.1 q1873, (nc_12_13_14_16_18_19_20_21_java_lang_IllegalArgumentException GA _ (by simpa using hn1)).2.2⟩ | exact Or.inr ⟨by decide, _, gw X.1 X.2.1 q1709, (nc_12_13_14_16_17_18_19_20_java_lang_UnsupportedOperationException GA _ (by simpa using hn2)).2.2⟩) Z.2.2.2.1 (th_eq hf) hX
  refine AW.eq (g2 := F0 m 8 ls [.int x5, .int (0 : Int32), va_rf v3]) rfl ?_
  refine AW.lift (fun _ _ _ _ k => lv_i2l (pc := 8) X.2.2.1 X.2.2.2.1 dX0_sell_8 rfl k) ?_
  refine a_lastore (pc := 9) X dX0_sell_9 hf (fun h hf => ?_)
  refine AW.lift (fun _ _ _ _ k => lv_goto (pc := 10) (tgt := 25) X.2.2.1 X.2.2.2.1 dX0_sell_10 rfl k) ?_
  refine AW.lift (fun _ _ _ _ k => lv_iconst (pc := 25) (v := (0 : Int32)) X.2.2.1 X.2.2.2.1 dX0_sell_25 rfl k) ?_
  exact a_ireturn X Z.2.2.1 Z.2.2.2.1 dX0_sell_26 hf
theorem np_X4_ofSize : npar yX4_ofSize.desc 2 := by unfold npar; decide +kernel
theorem hy_X4_ofSize : yX4_ofSize.cls ≠ "java/lang/invoke/MethodHandle" ∧ yX4_ofSize.cls ≠ "java/lang/invoke/VarHandle" := by decide +kernel
theorem w_X4_ofSize (GA : GA l s0 a0 K lam) (v0 : Option Nat) (v1 : Int32) (v2 : Int32) : AMet l s0 K lam yX4_ofSize (Cond.code yX4_ofSize cX4_ofSize (3 : Nat) (Option.some ClassFile.FieldType.int)) 0 0 [vR v0, vI v1, vI v2] oI (f_X4_ofSize K v0 v1 v2) := by
  refine AMet.of GA.1 (plainFor_of_name (by decide +kernel)) (Nat.le_of_ble_eq_true rfl) ?_
  intro b r hf p e s m args below meth c X hr hlk hnm hnd ht ls hl
  have Z : WZ l s0 a0 K p s m c cX4_ofSize yX4_ofSize.cls 3 b { frames := 0, cells := K 0 - aX b, slots := K 1 - aW b, locals := 0 } 0 0 meth [] (some (.int)) yX4_ofSize := ⟨⟨X, GA.2.1, GA.2.2.1, rfl, rfl, Nat.le_refl _, Nat.le_refl _⟩, tab_nil ht, hr, hlk, hnm, hnd⟩
  unfold f_X4_ofSize at hf
  clear hr hlk hnm hnd ht
  refine a_aload_n (pc := 0) X dX4_ofSize_0 rfl hl 0 rfl ?_
  refine a_get (pc := 1) (φ := 100) pR_t X Z.1.2.1 (gw X.1 X.2.1 q3025) (fun _ q => q) (by decide) dX4_ofSize_1 hf (fun x1 hf => ?_)
  refine a_iload_n (pc := 4) X dX4_ofSize_4 rfl hl 1 rfl ?_
  refine AW.lift (fun _ _ _ _ k => lv_iconst (pc := 5) (v := (3 : Int32)) X.2.2.1 X.2.2.2.1 dX4_ofSize_5 rfl k) ?_
  refine a_iload_n (pc := 6) X dX4_ofSize_6 rfl hl 2 rfl ?_
  refine AW.lift (fun _ _ _ _ k => lv_imul (pc := 7) X.2.2.1 X.2.2.2.1 dX4_ofSize_7 k) ?_
  refine AW.lift (fun _ _ _ _ k => lv_iadd (pc := 8) X.2.2.1 X.2.2.2.1 dX4_ofSize_8 k) ?_
  refine a_iaload (pc := 9) X dX4_ofSize_9 hf (fun x9 hf => ?_)
  refine a_aload_n (pc := 10) X dX4_ofSize_10 rfl hl 0 rfl ?_
  refine a_get (pc := 11) (φ := 100) pR_t X Z.1.2.1 (gw X.1 X.2.1 q3025) (fun _ q => q) (by decide) dX4_ofSize_11 hf (fun x11 hf => ?_)
  refine a_iload_n (pc := 14) X dX4_ofSize_14 rfl hl 1 rfl ?_
  refine AW.lift (fun _ _ _ _ k => lv_iconst (pc := 15) (v := (3 : Int32)) X.2.2.1 X.2.2.2.1 dX4_ofSize_15 rfl k) ?_
  refine a_iload_n (pc := 16) X dX4_ofSize_16 rfl hl 2 rfl ?_
  refine AW.lift (fun _ _ _ _ k => lv_imul (pc := 17) X.2.2.1 X.2.2.2.1 dX4_ofSize_17 k) ?_
  refine AW.lift (fun _ _ _ _ k => lv_iadd (pc := 18) X.2.2.1 X.2.2.2.1 dX4_ofSize_18 k) ?_
  refine AW.lift (fun _ _ _ _ k => lv_iconst (pc := 19) (v := (1 : Int32)) X.2.2.1 X.2.2.2.1 dX4_ofSize_19 rfl k) ?_
  refine AW.lift (fun _ _ _ _ k => lv_iadd (pc := 20) X.2.2.1 X.2.2.2.1 dX4_ofSize_20 k) ?_
  refine a_iaload (pc := 21) X dX4_ofSize_21 hf (fun x21 hf => ?_)
  refine AW.lift (fun _ _ _ _ k => lv_iadd (pc := 22) X.2.2.1 X.2.2.2.1 dX4_ofSize_22 k) ?_
  refine a_aload_n (pc := 23) X dX4_ofSize_23 rfl hl 0 rfl ?_
  refine a_get (pc := 24) (φ := 100) pR_t X Z.1.2.1 (gw X.1 X.2.1 q3025) (fun _ q => q) (by decide) dX4_ofSize_24 hf (fun x24 hf => ?_)
  refine a_iload_n (pc := 27) X dX4_ofSize_27 rfl hl 1 rfl ?_
  refine AW.lift (fun _ _ _ _ k => lv_iconst (pc := 28) (v := (3 : Int32)) X.2.2.1 X.2.2.2.1 dX4_ofSize_28 rfl k) ?_
  refine a_iload_n (pc := 29) X dX4_ofSize_29 rfl hl 2 rfl ?_
  refine AW.lift (fun _ _ _ _ k => lv_imul (pc := 30) X.2.2.1 X.2.2.2.1 dX4_ofSize_30 k) ?_
  refine AW.lift (fun _ _ _ _ k => lv_iadd (pc := 31) X.2.2.1 X.2.2.2.1 dX4_ofSize_31 k) ?_
  refine AW.lift (fun _ _ _ _ k => lv_iconst (pc := 32) (v := (2 : Int32)) X.2.2.1 X.2.2.2.1 dX4_ofSize_32 rfl k) ?_
  refine AW.lift (fun _ _ _ _ k => lv_iadd (pc := 33) X.2.2.1 X.2.2.2.1 dX4_ofSize_33 k) ?_
  refine a_iaload (pc := 34) X dX4_ofSize_34 hf (fun x34 hf => ?_)
  refine AW.lift (fun _ _ _ _ k => lv_iadd (pc := 35) X.2.2.1 X.2.2.2.1 dX4_ofSize_35 k) ?_
  exact a_ireturn X Z.2.2.1 Z.2.2.2.1 dX4_ofSize_36 hf
theorem np_X4_sellIt : npar yX4_sellIt.desc 2 := by unfold npar; decide +kernel
theorem hy_X4_sellIt : yX4_sellIt.cls ≠ "java/lang/invoke/MethodHandle" ∧ yX4_sellIt.cls ≠ "java/lang/invoke/VarHandle" := by decide +kernel
theorem w_X4_sellIt (GA : GA l s0 a0 K lam) (v0 : Option Nat) (v1 : Int32) (v2 : Int32) : AMet l s0 K lam yX4_sellIt (Cond.code yX4_sellIt cX4_sellIt (5 : Nat) (Option.some ClassFile.FieldType.int)) 2 46 [vR v0, vI v1, vI v2] oI (f_X4_sellIt K v0 v1 v2) := by
  refine AMet.of GA.1 (plainFor_of_name (by decide +kernel)) (Nat.le_of_ble_eq_true rfl) ?_
  intro b r hf p e s m args below meth c X hr hlk hnm hnd ht ls hl
  have Z : WZ l s0 a0 K p s m c cX4_sellIt yX4_sellIt.cls 5 b { frames := 2, cells := K 0 - aX b, slots := K 1 - aW b, locals := 46 } 2 46 meth [] (some (.int)) yX4_sellIt := ⟨⟨X, GA.2.1, GA.2.2.1, rfl, rfl, Nat.le_refl _, Nat.le_refl _⟩, tab_nil ht, hr, hlk, hnm, hnd⟩
  unfold f_X4_sellIt at hf
  clear hr hlk hnm hnd ht
  refine a_aload_n (pc := 0) X dX4_sellIt_0 rfl hl 0 rfl ?_
  refine a_iload_n (pc := 1) X dX4_sellIt_1 rfl hl 1 rfl ?_
  obtain ⟨a2, rfl, ⟨hk, hf⟩ | ⟨-, hf⟩⟩ := dv_some hf
  rotate_left
  · exact fl_none hf
  refine a_callb (pc := 2) (rs := []) (avs := [vR (some a2), vI v1]) Z.1 (w_X4_isJumper GA (some a2) v1) (Or.inl rfl) q3221 q86 (by decide) (by decide) dX4_sellIt_2 hl.1 (Nat.le_of_ble_eq_true rfl) hf (ct_V hk ⟨by decide, by decide⟩ X (Or.inl rfl) q3221 q3218 q3220 pv_44 hy_X4_isJumper np_X4_isJumper rfl dX4_sellIt_2) (fun q h he hX => a_out (unc_of Z.2.1 rfl) Z.2.2.2.1 he hX) (fun x2 h hf => ?kk2)
  refine AW.eq (g2 := F0 m 5 ls [.int x2]) rfl ?_
  refine AW.lift2 (fun _ _ _ _ k1 k2 => lv_if_ne (pc := 5) (tgt := 14) X.2.2.1 X.2.2.2.1 dX4_sellIt_5 rfl k2 k1) (fun c => ?_) (fun c => ?_)
  · have hf := ite_t c hf
    refine a_aload_n (pc := 8) X dX4_sellIt_8 rfl hl 0 rfl ?_
    refine AW.lift (fun _ _ _ _ k => lv_iconst (pc := 9) (v := (1 : Int32)) X.2.2.1 X.2.2.2.1 dX4_sellIt_9 rfl k) ?_
    rcases dv_someS hf with ⟨hk, hf⟩ | ⟨-, hf⟩
    rotate_left
    · exact fl_none hf
    refine a_callb (pc := 10) (rs := []) (avs := [vR (some a2), vI (1 : Int32)]) Z.1 (w_X4_throwing GA (some a2) (1 : Int32)) (Or.inl rfl) q3120 q86 (by decide) (by decide) dX4_sellIt_10 hl.1 (Nat.le_of_ble_eq_true rfl) hf (ct_V hk ⟨by decide, by decide⟩ X (Or.inl rfl) q3120 q3117 q3119 pv_30 hy_X4_throwing np_X4_throwing rfl dX4_sellIt_10) (fun q h he hX => a_out (unc_of Z.2.1 rfl) Z.2.2.2.1 he hX) (fun x10 h hf => ?kk10)
    refine AW.eq (g2 := F0 m 13 ls [.int x10]) rfl ?_
    exact a_ireturn X Z.2.2.1 Z.2.2.2.1 dX4_sellIt_13 hf
  · have hf := ite_f c hf
    refine a_iload_n (pc := 14) X dX4_sellIt_14 rfl hl 2 rfl ?_
    refine AW.lift (fun _ _ _ _ k => lv_i2l (pc := 15) X.2.2.1 X.2.2.2.1 dX4_sellIt_15 rfl k) ?_
    refine AW.lift (fun _ _ _ _ k => lv_lconst (pc := 16) (v := (0 : Int64)) X.2.2.1 X.2.2.2.1 dX4_sellIt_16 rfl k) ?_
    refine AW.lift (fun _ _ _ _ k => lv_ldc2 (pc := 17) X.2.2.1 X.2.2.2.1 X.2.2.2.2.1 (gw X.1 X.2.1 q3253) dX4_sellIt_17 k) ?_
    refine a_callb (pc := 20) (rs := []) (avs := [vJ (v2.toInt64), vJ (0 : Int64), vJ (2 : Int64)]) Z.1 (w_X4_in GA (v2.toInt64) (0 : Int64) (2 : Int64)) (Or.inl rfl) q3142 q86 (by decide) (by decide) dX4_sellIt_20 hl.1 (Nat.le_of_ble_eq_true rfl) hf (ct_S X (Or.inl rfl) q3142 q86 q3140 q3141 hy_X4_in np_X4_in rfl dX4_sellIt_20) (fun q h he hX => a_out (unc_of Z.2.1 rfl) Z.2.2.2.1 he hX) (fun x20 h hf => ?kk20)
    refine AW.eq (g2 := F0 m 23 ls [.int x20]) rfl ?_
    refine AW.lift2 (fun _ _ _ _ k1 k2 => lv_if_ne (pc := 23) (tgt := 32) X.2.2.1 X.2.2.2.1 dX4_sellIt_23 rfl k2 k1) (fun c => ?_) (fun c => ?_)
    · have hf := ite_t c hf
      refine a_aload_n (pc := 26) X dX4_sellIt_26 rfl hl 0 rfl ?_
      refine AW.lift (fun _ _ _ _ k => lv_iconst (pc := 27) (v := (2 : Int32)) X.2.2.1 X.2.2.2.1 dX4_sellIt_27 rfl k) ?_
      rcases dv_someS hf with ⟨hk, hf⟩ | ⟨-, hf⟩
      rotate_left
      · exact fl_none hf
      refine a_callb (pc := 28) (rs := []) (avs := [vR (some a2), vI (2 : Int32)]) Z.1 (w_X4_throwing GA (some a2) (2 : Int32)) (Or.inl rfl) q3120 q86 (by decide) (by decide) dX4_sellIt_28 hl.1 (Nat.le_of_ble_eq_true rfl) hf (ct_V hk ⟨by decide, by decide⟩ X (Or.inl rfl) q3120 q3117 q3119 pv_30 hy_X4_throwing np_X4_throwing rfl dX4_sellIt_28) (fun q h he hX => a_out (unc_of Z.2.1 rfl) Z.2.2.2.1 he hX) (fun x28 h hf => ?kk28)
      refine AW.eq (g2 := F0 m 31 ls [.int x28]) rfl ?_
      exact a_ireturn X Z.2.2.1 Z.2.2.2.1 dX4_sellIt_31 hf
    · have hf := ite_f c hf
      refine a_iload_n (pc := 32) X dX4_sellIt_32 rfl hl 1 rfl ?_
      refine a_callb (pc := 33) (rs := []) (avs := [vI v1]) Z.1 (w_X4_at0 GA v1) (Or.inl rfl) q3154 q86 (by decide) (by decide) dX4_sellIt_33 hl.1 (Nat.le_of_ble_eq_true rfl) hf (ct_S X (Or.inl rfl) q3154 q86 q3152 q3153 hy_X4_at0 np_X4_at0 rfl dX4_sellIt_33) (fun q h he hX => a_out (unc_of Z.2.1 rfl) Z.2.2.2.1 he hX) (fun x33 h hf => ?kk33)
      refine AW.eq (g2 := F0 m 36 ls [.int x33]) rfl ?_
      refine a_istore_n (pc := 36) X dX4_sellIt_36 rfl hl (by decide) (lv' := [(3, vI x33), (0, vR (some a2)), (1, vI v1), (2, vI v2)]) rfl (fun ls hl => ?_)
      refine a_aload_n (pc := 37) X dX4_sellIt_37 rfl hl 1 rfl ?_
      refine a_get (pc := 38) (φ := 100) pR_t X Z.1.2.1 (gw X.1 X.2.1 q3025) (fun _ q => q) (by decide) dX4_sellIt_38 hf (fun x38 hf => ?_)
      refine a_iload_n (pc := 41) X dX4_sellIt_41 rfl hl 0 rfl ?_
      refine AW.lift (fun _ _ _ _ k => lv_iconst (pc := 42) (v := (1 : Int32)) X.2.2.1 X.2.2.2.1 dX4_sellIt_42 rfl k) ?_
      refine AW.lift (fun _ _ _ _ k => lv_iadd (pc := 43) X.2.2.1 X.2.2.2.1 dX4_sellIt_43 k) ?_
      refine a_iaload (pc := 44) X dX4_sellIt_44 hf (fun x44 hf => ?_)
      refine a_istore (pc := 45) X dX4_sellIt_45 hl (by decide) (lv' := [(4, vI x44), (3, vI x33), (0, vR (some a2)), (1, vI v1), (2, vI v2)]) rfl (fun ls hl => ?_)
      refine a_aload_n (pc := 47) X dX4_sellIt_47 rfl hl 2 rfl ?_
      refine a_get (pc := 48) (φ := 100) pR_t X Z.1.2.1 (gw X.1 X.2.1 q3025) (fun _ q => q) (by decide) dX4_sellIt_48 hf (fun x48 hf => ?_)
      refine a_iload_n (pc := 51) X dX4_sellIt_51 rfl hl 1 rfl ?_
      refine AW.lift (fun _ _ _ _ k => lv_iconst (pc := 52) (v := (2 : Int32)) X.2.2.1 X.2.2.2.1 dX4_sellIt_52 rfl k) ?_
      refine AW.lift (fun _ _ _ _ k => lv_iadd (pc := 53) X.2.2.1 X.2.2.2.1 dX4_sellIt_53 k) ?_
      refine a_iaload (pc := 54) X dX4_sellIt_54 hf (fun x54 hf => ?_)
      refine AW.lift (fun _ _ _ _ k => lv_iconst (pc := 55) (v := (2 : Int32)) X.2.2.1 X.2.2.2.1 dX4_sellIt_55 rfl k) ?_
      refine AW.lift2 (fun _ _ _ _ k1 k2 => lv_icmp_ne (pc := 56) (tgt := 67) X.2.2.1 X.2.2.2.1 dX4_sellIt_56 rfl k2 k1) (fun c => ?_) (fun c => ?_)
      · have hf := ite_t c hf
        refine a_aload_n (pc := 59) X dX4_sellIt_59 rfl hl 2 rfl ?_
        refine AW.lift (fun _ _ _ _ k => lv_iconst (pc := 60) (v := (3 : Int32)) X.2.2.1 X.2.2.2.1 dX4_sellIt_60 rfl k) ?_
        refine AW.lift (fun _ _ _ _ k => lv_iconst (pc := 61) (v := (2 : Int32)) X.2.2.1 X.2.2.2.1 dX4_sellIt_61 rfl k) ?_
        refine AW.lift (fun _ _ _ _ k => lv_iconst (pc := 62) (v := (2 : Int32)) X.2.2.1 X.2.2.2.1 dX4_sellIt_62 rfl k) ?_
        rcases dv_someS hf with ⟨hk, hf⟩ | ⟨-, hf⟩
        rotate_left
        · exact fl_none hf
        refine a_callb (pc := 63) (rs := []) (avs := [vR (some a2), vI (3 : Int32), vI (2 : Int32), vI (2 : Int32)]) Z.1 (w_X4_refuse GA (some a2) (3 : Int32) (2 : Int32) (2 : Int32)) (Or.inl rfl) q3116 q86 (by decide) (by decide) dX4_sellIt_63 hl.1 (Nat.le_of_ble_eq_true rfl) hf (ct_V hk ⟨by decide, by decide⟩ X (Or.inl rfl) q3116 q3113 q3115 pv_29 hy_X4_refuse np_X4_refuse rfl dX4_sellIt_63) (fun q h he hX => a_out (unc_of Z.2.1 rfl) Z.2.2.2.1 he hX) (fun x63 h hf => ?kk63)
        refine AW.eq (g2 := F0 m 66 ls [.int x63]) rfl ?_
        exact a_ireturn X Z.2.2.1 Z.2.2.2.1 dX4_sellIt_66 hf
      · have hf := ite_f c hf
        refine a_aload_n (pc := 67) X dX4_sellIt_67 rfl hl 2 rfl ?_
        refine a_get (pc := 68) (φ := 100) pR_t X Z.1.2.1 (gw X.1 X.2.1 q3025) (fun _ q => q) (by decide) dX4_sellIt_68 hf (fun x68 hf => ?_)
        refine a_iload_n (pc := 71) X dX4_sellIt_71 rfl hl 1 rfl ?_
        refine AW.lift (fun _ _ _ _ k => lv_iconst (pc := 72) (v := (4 : Int32)) X.2.2.1 X.2.2.2.1 dX4_sellIt_72 rfl k) ?_
        refine AW.lift (fun _ _ _ _ k => lv_iadd (pc := 73) X.2.2.1 X.2.2.2.1 dX4_sellIt_73 k) ?_
        refine a_iaload (pc := 74) X dX4_sellIt_74 hf (fun x74 hf => ?_)
        refine AW.lift (fun _ _ _ _ k => lv_iconst (pc := 75) (v := (-1 : Int32)) X.2.2.1 X.2.2.2.1 dX4_sellIt_75 rfl k) ?_
        refine AW.lift2 (fun _ _ _ _ k1 k2 => lv_icmp_eq (pc := 76) (tgt := 95) X.2.2.1 X.2.2.2.1 dX4_sellIt_76 rfl k1 k2) (fun c => ?_) (fun c => ?_)
        · have hf := ite_t c hf
          refine a_aload_n (pc := 95) X dX4_sellIt_95 rfl hl 2 rfl ?_
          refine a_get (pc := 96) (φ := 100) pR_t X Z.1.2.1 (gw X.1 X.2.1 q3025) (fun _ q => q) (by decide) dX4_sellIt_96 hf (fun x96 hf => ?_)
          refine AW.lift (fun _ _ _ _ k => lv_sipush (pc := 99) (v := (152 : Int32)) X.2.2.1 X.2.2.2.1 dX4_sellIt_99 rfl k) ?_
          refine AW.lift (fun _ _ _ _ k => lv_iconst (pc := 102) (v := (3 : Int32)) X.2.2.1 X.2.2.2.1 dX4_sellIt_102 rfl k) ?_
          refine a_iload (pc := 103) X dX4_sellIt_103 hl 0 rfl ?_
          refine AW.lift (fun _ _ _ _ k => lv_imul (pc := 105) X.2.2.1 X.2.2.2.1 dX4_sellIt_105 k) ?_
          refine AW.lift (fun _ _ _ _ k => lv_iadd (pc := 106) X.2.2.1 X.2.2.2.1 dX4_sellIt_106 k) ?_
          refine a_iload_n (pc := 107) X dX4_sellIt_107 rfl hl 4 rfl ?_
          refine AW.lift (fun _ _ _ _ k => lv_iadd (pc := 108) X.2.2.1 X.2.2.2.1 dX4_sellIt_108 k) ?_
          refine a_iaload (pc := 109) X dX4_sellIt_109 hf (fun x109 hf => ?_)
          refine AW.lift2 (fun _ _ _ _ k1 k2 => lv_if_ne (pc := 110) (tgt := 130) X.2.2.1 X.2.2.2.1 dX4_sellIt_110 rfl k2 k1) (fun c => ?_) (fun c => ?_)
          · have hf := ite_t c hf
            refine a_aload_n (pc := 113) X dX4_sellIt_113 rfl hl 2 rfl ?_
            refine AW.lift (fun _ _ _ _ k => lv_iconst (pc := 114) (v := (3 : Int32)) X.2.2.1 X.2.2.2.1 dX4_sellIt_114 rfl k) ?_
            refine AW.lift (fun _ _ _ _ k => lv_bipush (pc := 115) (v := (8 : Int32)) X.2.2.1 X.2.2.2.1 dX4_sellIt_115 rfl k) ?_
            refine a_aload_n (pc := 117) X dX4_sellIt_117 rfl hl 2 rfl ?_
            refine AW.lift (fun _ _ _ _ k => lv_sipush (pc := 118) (v := (152 : Int32)) X.2.2.1 X.2.2.2.1 dX4_sellIt_118 rfl k) ?_
            refine a_iload (pc := 121) X dX4_sellIt_121 hl 0 rfl ?_
            rcases dv_someS hf with ⟨hk, hf⟩ | ⟨-, hf⟩
            rotate_left
            · exact fl_none hf
            refine a_callb (pc := 123) (rs := [vI (8 : Int32), vI (3 : Int32), vR (some a2)]) (avs := [vR (some a2), vI (152 : Int32), vI x44]) Z.1 (w_X4_ofSize GA (some a2) (152 : Int32) x44) (Or.inl rfl) q3266 q86 (by decide) (by decide) dX4_sellIt_123 hl.1 (Nat.le_of_ble_eq_true rfl) hf (ct_V hk ⟨by decide, by decide⟩ X (Or.inl rfl) q3266 q3263 q3265 pv_50 hy_X4_ofSize np_X4_ofSize rfl dX4_sellIt_123) (fun q h he hX => a_out (unc_of Z.2.1 rfl) Z.2.2.2.1 he hX) (fun x123 h hf => ?kk123)
            refine AW.eq (g2 := F0 m 126 ls [.int x123, .int (8 : Int32), .int (3 : Int32), va_rf (some a2)]) rfl ?_
            rcases dv_someS hf with ⟨hk, hf⟩ | ⟨-, hf⟩
            rotate_left
            · exact fl_none hf
            refine a_callb (pc := 126) (rs := []) (avs := [vR (some a2), vI (3 : Int32), vI (8 : Int32), vI x123]) Z.1 (w_X4_refuse GA (some a2) (3 : Int32) (8 : Int32) x123) (Or.inl rfl) q3116 q86 (by decide) (by decide) dX4_sellIt_126 hl.1 (Nat.le_of_ble_eq_true rfl) hf (ct_V hk ⟨by decide, by decide⟩ X (Or.inl rfl) q3116 q3113 q3115 pv_29 hy_X4_refuse np_X4_refuse rfl dX4_sellIt_126) (fun q h he hX => a_out (unc_of Z.2.1 rfl) Z.2.2.2.1 he hX) (fun x126 h hf => ?kk126)
            refine AW.eq (g2 := F0 m 129 ls [.int x126]) rfl ?_
            exact a_ireturn X Z.2.2.1 Z.2.2.2.1 dX4_sellIt_129 hf
          · have hf := ite_f c hf
            refine a_aload_n (pc := 130) X dX4_sellIt_130 rfl hl 2 rfl ?_
            refine a_get (pc := 131) (φ := 100) pR_t X Z.1.2.1 (gw X.1 X.2.1 q3025) (fun _ q => q) (by decide) dX4_sellIt_131 hf (fun x131 hf => ?_)
            refine AW.lift (fun _ _ _ _ k => lv_sipush (pc := 134) (v := (152 : Int32)) X.2.2.1 X.2.2.2.1 dX4_sellIt_134 rfl k) ?_
            refine AW.lift (fun _ _ _ _ k => lv_iconst (pc := 137) (v := (3 : Int32)) X.2.2.1 X.2.2.2.1 dX4_sellIt_137 rfl k) ?_
            refine a_iload (pc := 138) X dX4_sellIt_138 hl 0 rfl ?_
            refine AW.lift (fun _ _ _ _ k => lv_imul (pc := 140) X.2.2.1 X.2.2.2.1 dX4_sellIt_140 k) ?_
            refine AW.lift (fun _ _ _ _ k => lv_iadd (pc := 141) X.2.2.1 X.2.2.2.1 dX4_sellIt_141 k) ?_
            refine a_iload_n (pc := 142) X dX4_sellIt_142 rfl hl 4 rfl ?_
            refine AW.lift (fun _ _ _ _ k => lv_iadd (pc := 143) X.2.2.1 X.2.2.2.1 dX4_sellIt_143 k) ?_
            refine AW.lift (fun _ _ _ _ k => lv_dup2_11 (pc := 144) X.2.2.1 X.2.2.2.1 dX4_sellIt_144 rfl (cat_rf _) k) ?_
            refine a_iaload (pc := 145) X dX4_sellIt_145 hf (fun x145 hf => ?_)
            refine AW.lift (fun _ _ _ _ k => lv_iconst (pc := 146) (v := (1 : Int32)) X.2.2.1 X.2.2.2.1 dX4_sellIt_146 rfl k) ?_
            refine AW.lift (fun _ _ _ _ k => lv_isub (pc := 147) X.2.2.1 X.2.2.2.1 dX4_sellIt_147 k) ?_
            refine a_iastore (pc := 148) X dX4_sellIt_148 hf (fun h hf => ?_)
            refine a_aload_n (pc := 149) X dX4_sellIt_149 rfl hl 2 rfl ?_
            refine a_get (pc := 150) (φ := 100) pR_t X Z.1.2.1 (gw X.1 X.2.1 q3025) (fun _ q => q) (by decide) dX4_sellIt_150 hf (fun x150 hf => ?_)
            refine AW.lift (fun _ _ _ _ k => lv_sipush (pc := 153) (v := (167 : Int32)) X.2.2.1 X.2.2.2.1 dX4_sellIt_153 rfl k) ?_
            refine AW.lift (fun _ _ _ _ k => lv_iconst (pc := 156) (v := (3 : Int32)) X.2.2.1 X.2.2.2.1 dX4_sellIt_156 rfl k) ?_
            refine a_iload (pc := 157) X dX4_sellIt_157 hl 0 rfl ?_
            refine AW.lift (fun _ _ _ _ k => lv_imul (pc := 159) X.2.2.1 X.2.2.2.1 dX4_sellIt_159 k) ?_
            refine AW.lift (fun _ _ _ _ k => lv_iadd (pc := 160) X.2.2.1 X.2.2.2.1 dX4_sellIt_160 k) ?_
            refine a_iload_n (pc := 161) X dX4_sellIt_161 rfl hl 4 rfl ?_
            refine AW.lift (fun _ _ _ _ k => lv_iadd (pc := 162) X.2.2.1 X.2.2.2.1 dX4_sellIt_162 k) ?_
            refine AW.lift (fun _ _ _ _ k => lv_dup2_11 (pc := 163) X.2.2.1 X.2.2.2.1 dX4_sellIt_163 rfl (cat_rf _) k) ?_
            refine a_iaload (pc := 164) X dX4_sellIt_164 hf (fun x164 hf => ?_)
            refine AW.lift (fun _ _ _ _ k => lv_iconst (pc := 165) (v := (1 : Int32)) X.2.2.1 X.2.2.2.1 dX4_sellIt_165 rfl k) ?_
            refine AW.lift (fun _ _ _ _ k => lv_iadd (pc := 166) X.2.2.1 X.2.2.2.1 dX4_sellIt_166 k) ?_
            refine a_iastore (pc := 167) X dX4_sellIt_167 hf (fun h hf => ?_)
            refine a_aload_n (pc := 168) X dX4_sellIt_168 rfl hl 2 rfl ?_
            refine a_get (pc := 169) (φ := 100) pR_t X Z.1.2.1 (gw X.1 X.2.1 q3025) (fun _ q => q) (by decide) dX4_sellIt_169 hf (fun x169 hf => ?_)
            refine a_iload_n (pc := 172) X dX4_sellIt_172 rfl hl 1 rfl ?_
            refine AW.lift (fun _ _ _ _ k => lv_iconst (pc := 173) (v := (4 : Int32)) X.2.2.1 X.2.2.2.1 dX4_sellIt_173 rfl k) ?_
            refine AW.lift (fun _ _ _ _ k => lv_iadd (pc := 174) X.2.2.1 X.2.2.2.1 dX4_sellIt_174 k) ?_
            refine a_iload_n (pc := 175) X dX4_sellIt_175 rfl hl 4 rfl ?_
            refine a_iastore (pc := 176) X dX4_sellIt_176 hf (fun h hf => ?_)
            refine a_aload_n (pc := 177) X dX4_sellIt_177 rfl hl 2 rfl ?_
            refine a_get (pc := 178) (φ := 100) pR_t X Z.1.2.1 (gw X.1 X.2.1 q3025) (fun _ q => q) (by decide) dX4_sellIt_178 hf (fun x178 hf => ?_)
            refine AW.lift (fun _ _ _ _ k => lv_iconst (pc := 181) (v := (5 : Int32)) X.2.2.1 X.2.2.2.1 dX4_sellIt_181 rfl k) ?_
            refine AW.lift (fun _ _ _ _ k => lv_dup2_11 (pc := 182) X.2.2.1 X.2.2.2.1 dX4_sellIt_182 rfl (cat_rf _) k) ?_
            refine a_iaload (pc := 183) X dX4_sellIt_183 hf (fun x183 hf => ?_)
            refine AW.lift (fun _ _ _ _ k => lv_iconst (pc := 184) (v := (2 : Int32)) X.2.2.1 X.2.2.2.1 dX4_sellIt_184 rfl k) ?_
            refine AW.lift (fun _ _ _ _ k => lv_iadd (pc := 185) X.2.2.1 X.2.2.2.1 dX4_sellIt_185 k) ?_
            refine a_iastore (pc := 186) X dX4_sellIt_186 hf (fun h hf => ?_)
            refine a_aload_n (pc := 187) X dX4_sellIt_187 rfl hl 2 rfl ?_
            refine a_get (pc := 188) (φ := 100) pR_t X Z.1.2.1 (gw X.1 X.2.1 q3025) (fun _ q => q) (by decide) dX4_sellIt_188 hf (fun x188 hf => ?_)
            refine AW.lift (fun _ _ _ _ k => lv_iconst (pc := 191) (v := (5 : Int32)) X.2.2.1 X.2.2.2.1 dX4_sellIt_191 rfl k) ?_
            refine a_iaload (pc := 192) X dX4_sellIt_192 hf (fun x192 hf => ?_)
            exact a_ireturn X Z.2.2.1 Z.2.2.2.1 dX4_sellIt_193 hf
        · have hf := ite_f c hf
          refine a_aload_n (pc := 79) X dX4_sellIt_79 rfl hl 2 rfl ?_
          refine AW.lift (fun _ _ _ _ k => lv_iconst (pc := 80) (v := (3 : Int32)) X.2.2.1 X.2.2.2.1 dX4_sellIt_80 rfl k) ?_
          refine AW.lift (fun _ _ _ _ k => lv_bipush (pc := 81) (v := (9 : Int32)) X.2.2.1 X.2.2.2.1 dX4_sellIt_81 rfl k) ?_
          refine a_aload_n (pc := 83) X dX4_sellIt_83 rfl hl 2 rfl ?_
          refine a_get (pc := 84) (φ := 100) pR_t X Z.1.2.1 (gw X.1 X.2.1 q3025) (fun _ q => q) (by decide) dX4_sellIt_84 hf (fun x84 hf => ?_)
          refine a_iload_n (pc := 87) X dX4_sellIt_87 rfl hl 1 rfl ?_
          refine AW.lift (fun _ _ _ _ k => lv_iconst (pc := 88) (v := (4 : Int32)) X.2.2.1 X.2.2.2.1 dX4_sellIt_88 rfl k) ?_
          refine AW.lift (fun _ _ _ _ k => lv_iadd (pc := 89) X.2.2.1 X.2.2.2.1 dX4_sellIt_89 k) ?_
          refine a_iaload (pc := 90) X dX4_sellIt_90 hf (fun x90 hf => ?_)
          rcases dv_someS hf with ⟨hk, hf⟩ | ⟨-, hf⟩
          rotate_left
          · exact fl_none hf
          refine a_callb (pc := 91) (rs := []) (avs := [vR (some a2), vI (3 : Int32), vI (9 : Int32), vI x90]) Z.1 (w_X4_refuse GA (some a2) (3 : Int32) (9 : Int32) x90) (Or.inl rfl) q3116 q86 (by decide) (by decide) dX4_sellIt_91 hl.1 (Nat.le_of_ble_eq_true rfl) hf (ct_V hk ⟨by decide, by decide⟩ X (Or.inl rfl) q3116 q3113 q3115 pv_29 hy_X4_refuse np_X4_refuse rfl dX4_sellIt_91) (fun q h he hX => a_out (unc_of Z.2.1 rfl) Z.2.2.2.1 he hX) (fun x91 h hf => ?kk91)
          refine AW.eq (g2 := F0 m 94 ls [.int x91]) rfl ?_
          exact a_ireturn X Z.2.2.1 Z.2.2.2.1 dX4_sellIt_94 hf
theorem np_X4_sell : npar yX4_sell.desc 2 := by unfold npar; decide +kernel
theorem hy_X4_sell : yX4_sell.cls ≠ "java/lang/invoke/MethodHandle" ∧ yX4_sell.cls ≠ "java/lang/invoke/VarHandle" := by decide +kernel
theorem w_X4_sell (GA : GA l s0 a0 K lam) (v0 : Option Nat) (v1 : Int32) (v2 : Int32) : AMet l s0 K lam yX4_sell (Cond.code yX4_sell cX4_sell (3 : Nat) (Option.some ClassFile.FieldType.int)) 3 70 [vR v0, vI v1, vI v2] oI (f_X4_sell K v0 v1 v2) := by
  refine AMet.of GA.1 (plainFor_of_name (by decide +kernel)) (Nat.le_of_ble_eq_true rfl) ?_
  intro b r hf p e s m args below meth c X hr hlk hnm hnd ht ls hl
  have Z : WZ l s0 a0 K p s m c cX4_sell yX4_sell.cls 3 b { frames := 3, cells := K 0 - aX b, slots := K 1 - aW b, locals := 70 } 3 70 meth [] (some (.int)) yX4_sell := ⟨⟨X, GA.2.1, GA.2.2.1, rfl, rfl, Nat.le_refl _, Nat.le_refl _⟩, tab_nil ht, hr, hlk, hnm, hnd⟩
  unfold f_X4_sell at hf
  clear hr hlk hnm hnd ht
  refine a_aload_n (pc := 0) X dX4_sell_0 rfl hl 0 rfl ?_
  obtain ⟨a1, rfl, ⟨hk, hf⟩ | ⟨-, hf⟩⟩ := dv_some hf
  rotate_left
  · exact fl_none hf
  refine a_callb (pc := 1) (rs := []) (avs := [vR (some a1)]) Z.1 (w_X4_layAside GA (some a1)) (Or.inl rfl) q3112 q86 (by decide) (by decide) dX4_sell_1 hl.1 (Nat.le_of_ble_eq_true rfl) hf (ct_V hk ⟨by decide, by decide⟩ X (Or.inl rfl) q3112 q3109 q3111 pv_28 hy_X4_layAside np_X4_layAside rfl dX4_sell_1) (fun q h he hX => a_out (unc_of Z.2.1 rfl) Z.2.2.2.1 he hX) (fun _ h hf => ?kk1)
  refine AW.eq (g2 := F0 m 4 ls []) rfl ?_
  refine a_aload_n (pc := 4) X dX4_sell_4 rfl hl 0 rfl ?_
  refine a_aload_n (pc := 5) X dX4_sell_5 rfl hl 0 rfl ?_
  refine a_iload_n (pc := 6) X dX4_sell_6 rfl hl 1 rfl ?_
  refine a_iload_n (pc := 7) X dX4_sell_7 rfl hl 2 rfl ?_
  rcases dv_someS hf with ⟨hk, hf⟩ | ⟨-, hf⟩
  rotate_left
  · exact fl_none hf
  refine a_callb (pc := 8) (rs := [vR (some a1)]) (avs := [vR (some a1), vI v1, vI v2]) Z.1 (w_X4_sellIt GA (some a1) v1 v2) (Or.inl rfl) q3262 q86 (by decide) (by decide) dX4_sell_8 hl.1 (Nat.le_of_ble_eq_true rfl) hf (ct_V hk ⟨by decide, by decide⟩ X (Or.inl rfl) q3262 q3259 q3261 pv_49 hy_X4_sellIt np_X4_sellIt rfl dX4_sell_8) (fun q h he hX => a_out (unc_of Z.2.1 rfl) Z.2.2.2.1 he hX) (fun x8 h hf => ?kk8)
  refine AW.eq (g2 := F0 m 11 ls [.int x8, va_rf (some a1)]) rfl ?_
  rcases dv_someS hf with ⟨hk, hf⟩ | ⟨-, hf⟩
  rotate_left
  · exact fl_none hf
  refine a_callb (pc := 11) (rs := []) (avs := [vR (some a1), vI x8]) Z.1 (w_X4_changed GA (some a1) x8) (Or.inl rfl) q3127 q86 (by decide) (by decide) dX4_sell_11 hl.1 (Nat.le_of_ble_eq_true rfl) hf (ct_V hk ⟨by decide, by decide⟩ X (Or.inl rfl) q3127 q3124 q3126 pv_31 hy_X4_changed np_X4_changed rfl dX4_sell_11) (fun q h he hX => a_out (unc_of Z.2.1 rfl) Z.2.2.2.1 he hX) (fun x11 h hf => ?kk11)
  refine AW.eq (g2 := F0 m 14 ls [.int x11]) rfl ?_
  exact a_ireturn X Z.2.2.1 Z.2.2.2.1 dX4_sell_14 hf
theorem np_X1_jumperOf : npar yX1_jumperOf.desc 2 := by unfold npar; decide +kernel
theorem hy_X1_jumperOf : yX1_jumperOf.cls ≠ "java/lang/invoke/MethodHandle" ∧ yX1_jumperOf.cls ≠ "java/lang/invoke/VarHandle" := by decide +kernel
theorem w_X1_jumperOf (GA : GA l s0 a0 K lam) (v0 : Option Nat) (v1 : Int32) (v2 : Int32) : AMet l s0 K lam yX1_jumperOf (Cond.code yX1_jumperOf cX1_jumperOf (4 : Nat) (Option.some ClassFile.FieldType.int)) 10 441 [vR v0, vI v1, vI v2] oI (f_X1_jumperOf K v0 v1 v2) := by
  refine AMet.of GA.1 (plainFor_of_name (by decide +kernel)) (Nat.le_of_ble_eq_true rfl) ?_
  intro b r hf p e s m args below meth c X hr hlk hnm hnd ht ls hl
  have Z : WZ l s0 a0 K p s m c cX1_jumperOf yX1_jumperOf.cls 4 b { frames := 10, cells := K 0 - aX b, slots := K 1 - aW b, locals := 441 } 10 441 meth [] (some (.int)) yX1_jumperOf := ⟨⟨X, GA.2.1, GA.2.2.1, rfl, rfl, Nat.le_refl _, Nat.le_refl _⟩, tab_nil ht, hr, hlk, hnm, hnd⟩
  unfold f_X1_jumperOf at hf
  clear hr hlk hnm hnd ht
  refine a_aload_n (pc := 0) X dX1_jumperOf_0 rfl hl 0 rfl ?_
  refine a_iload_n (pc := 1) X dX1_jumperOf_1 rfl hl 1 rfl ?_
  obtain ⟨a2, rfl, ⟨hk, hf⟩ | ⟨-, hf⟩⟩ := dv_some hf
  rotate_left
  · exact fl_none hf
  refine a_callb (pc := 2) (rs := []) (avs := [vR (some a2), vI v1]) Z.1 (w_X1_jumperAt GA (some a2) v1) (Or.inl rfl) q2185 q74 (by decide) (by decide) dX1_jumperOf_2 hl.1 (Nat.le_of_ble_eq_true rfl) hf (ct_V hk ⟨by decide, by decide⟩ X (Or.inl rfl) q2185 q2182 q2184 pv_9 hy_X1_jumperAt np_X1_jumperAt rfl dX1_jumperOf_2) (fun q h he hX => a_out (unc_of Z.2.1 rfl) Z.2.2.2.1 he hX) (fun x2 h hf => ?kk2)
  refine AW.eq (g2 := F0 m 5 ls [va_rf x2]) rfl ?_
  refine a_astore_n (pc := 5) X dX1_jumperOf_5 rfl hl (by decide) (lv' := [(3, vR x2), (0, vR (some a2)), (1, vI v1), (2, vI v2)]) rfl (fun ls hl => ?_)
  refine a_iload_n (pc := 6) X dX1_jumperOf_6 rfl hl 3 rfl ?_
  refine AW.lift (fun _ _ _ _ k => lv_iconst (pc := 7) (v := (0 : Int32)) X.2.2.1 X.2.2.2.1 dX1_jumperOf_7 rfl k) ?_
  refine AW.lift (fun _ _ _ _ k => lv_bipush (pc := 8) (v := (6 : Int32)) X.2.2.1 X.2.2.2.1 dX1_jumperOf_8 rfl k) ?_
  refine a_callb (pc := 10) (rs := []) (avs := [vI v2, vI (0 : Int32), vI (6 : Int32)]) Z.1 (w_X1_isIn GA v2 (0 : Int32) (6 : Int32)) (Or.inl rfl) q1812 q74 (by decide) (by decide) dX1_jumperOf_10 hl.1 (Nat.le_of_ble_eq_true rfl) hf (ct_S X (Or.inl rfl) q1812 q74 q1813 q1811 hy_X1_isIn np_X1_isIn rfl dX1_jumperOf_10) (fun q h he hX => a_out (unc_of Z.2.1 rfl) Z.2.2.2.1 he hX) (fun x10 h hf => ?kk10)
  refine AW.eq (g2 := F0 m 13 ls [.int x10]) rfl ?_
  refine a_callb (pc := 13) (rs := []) (avs := [vI x10]) Z.1 (w_X1_checkArgument GA x10) (Or.inl rfl) q1880 q74 (by decide) (by decide) dX1_jumperOf_13 hl.1 (Nat.le_of_ble_eq_true rfl) hf (ct_S X (Or.inl rfl) q1880 q74 q1878 q1879 hy_X1_checkArgument np_X1_checkArgument rfl dX1_jumperOf_13) (fun q h he hX => a_out (unc_of Z.2.1 rfl) Z.2.2.2.1 he hX) (fun _ h hf => ?kk13)
  refine AW.eq (g2 := F0 m 16 ls []) rfl ?_
  refine a_iload_n (pc := 16) X dX1_jumperOf_16 rfl hl 3 rfl ?_
  by_cases c0 : v2 = (0 : Int32)
  · have hf := ite_t c0 hf
    refine AW.lift (fun _ _ _ _ k => lv_tableIn (pc := 17) (tgt := 56) (off := 39) X.2.2.1 X.2.2.2.1 dX1_jumperOf_17 (by rw [c0]; decide) (by rw [c0]; decide) (by rw [c0]; rfl) rfl k) ?_
    refine a_aload_n (pc := 56) X dX1_jumperOf_56 rfl hl 0 rfl ?_
    refine a_getN (pc := 57) (φ := 501) pI_t X Z.1.2.1 (gnF X.1 X.2.1 q915) (fun _ q => q) (by decide) dX1_jumperOf_57 hf (fun x57 hf => ?_)
    refine AW.lift (fun _ _ _ _ k => lv_goto (pc := 60) (tgt := 102) X.2.2.1 X.2.2.2.1 dX1_jumperOf_60 rfl k) ?_
    exact a_ireturn X Z.2.2.1 Z.2.2.2.1 dX1_jumperOf_102 hf
  have hf := ite_f c0 hf
  by_cases c1 : v2 = (1 : Int32)
  · have hf := ite_t c1 hf
    refine AW.lift (fun _ _ _ _ k => lv_tableIn (pc := 17) (tgt := 63) (off := 46) X.2.2.1 X.2.2.2.1 dX1_jumperOf_17 (by rw [c1]; decide) (by rw [c1]; decide) (by rw [c1]; rfl) rfl k) ?_
    refine a_aload_n (pc := 63) X dX1_jumperOf_63 rfl hl 0 rfl ?_
    refine a_getN (pc := 64) (φ := 502) pI_t X Z.1.2.1 (gnF X.1 X.2.1 q918) (fun _ q => q) (by decide) dX1_jumperOf_64 hf (fun x64 hf => ?_)
    refine AW.lift (fun _ _ _ _ k => lv_goto (pc := 67) (tgt := 102) X.2.2.1 X.2.2.2.1 dX1_jumperOf_67 rfl k) ?_
    exact a_ireturn X Z.2.2.1 Z.2.2.2.1 dX1_jumperOf_102 hf
  have hf := ite_f c1 hf
  by_cases c2 : v2 = (2 : Int32)
  · have hf := ite_t c2 hf
    refine AW.lift (fun _ _ _ _ k => lv_tableIn (pc := 17) (tgt := 70) (off := 53) X.2.2.1 X.2.2.2.1 dX1_jumperOf_17 (by rw [c2]; decide) (by rw [c2]; decide) (by rw [c2]; rfl) rfl k) ?_
    refine a_aload_n (pc := 70) X dX1_jumperOf_70 rfl hl 0 rfl ?_
    refine a_getN (pc := 71) (φ := 504) pI_t X Z.1.2.1 (gnF X.1 X.2.1 q923) (fun _ q => q) (by decide) dX1_jumperOf_71 hf (fun x71 hf => ?_)
    refine AW.lift (fun _ _ _ _ k => lv_goto (pc := 74) (tgt := 102) X.2.2.1 X.2.2.2.1 dX1_jumperOf_74 rfl k) ?_
    exact a_ireturn X Z.2.2.1 Z.2.2.2.1 dX1_jumperOf_102 hf
  have hf := ite_f c2 hf
  by_cases c3 : v2 = (3 : Int32)
  · have hf := ite_t c3 hf
    refine AW.lift (fun _ _ _ _ k => lv_tableIn (pc := 17) (tgt := 77) (off := 60) X.2.2.1 X.2.2.2.1 dX1_jumperOf_17 (by rw [c3]; decide) (by rw [c3]; decide) (by rw [c3]; rfl) rfl k) ?_
    refine a_aload_n (pc := 77) X dX1_jumperOf_77 rfl hl 0 rfl ?_
    refine a_getN (pc := 78) (φ := 505) pI_t X Z.1.2.1 (gnF X.1 X.2.1 q926) (fun _ q => q) (by decide) dX1_jumperOf_78 hf (fun x78 hf => ?_)
    refine AW.lift (fun _ _ _ _ k => lv_goto (pc := 81) (tgt := 102) X.2.2.1 X.2.2.2.1 dX1_jumperOf_81 rfl k) ?_
    exact a_ireturn X Z.2.2.1 Z.2.2.2.1 dX1_jumperOf_102 hf
  have hf := ite_f c3 hf
  by_cases c4 : v2 = (4 : Int32)
  · have hf := ite_t c4 hf
    refine AW.lift (fun _ _ _ _ k => lv_tableIn (pc := 17) (tgt := 84) (off := 67) X.2.2.1 X.2.2.2.1 dX1_jumperOf_17 (by rw [c4]; decide) (by rw [c4]; decide) (by rw [c4]; rfl) rfl k) ?_
    refine a_aload_n (pc := 84) X dX1_jumperOf_84 rfl hl 0 rfl ?_
    refine a_getN (pc := 85) (φ := 506) pI_t X Z.1.2.1 (gnF X.1 X.2.1 q929) (fun _ q => q) (by decide) dX1_jumperOf_85 hf (fun x85 hf => ?_)
    refine AW.lift (fun _ _ _ _ k => lv_goto (pc := 88) (tgt := 102) X.2.2.1 X.2.2.2.1 dX1_jumperOf_88 rfl k) ?_
    exact a_ireturn X Z.2.2.1 Z.2.2.2.1 dX1_jumperOf_102 hf
  have hf := ite_f c4 hf
  by_cases c5 : v2 = (5 : Int32)
  · have hf := ite_t c5 hf
    refine AW.lift (fun _ _ _ _ k => lv_tableIn (pc := 17) (tgt := 91) (off := 74) X.2.2.1 X.2.2.2.1 dX1_jumperOf_17 (by rw [c5]; decide) (by rw [c5]; decide) (by rw [c5]; rfl) rfl k) ?_
    refine a_aload_n (pc := 91) X dX1_jumperOf_91 rfl hl 0 rfl ?_
    refine a_getN (pc := 92) (φ := 507) pI_t X Z.1.2.1 (gnF X.1 X.2.1 q931) (fun _ q => q) (by decide) dX1_jumperOf_92 hf (fun x92 hf => ?_)
    refine AW.lift (fun _ _ _ _ k => lv_goto (pc := 95) (tgt := 102) X.2.2.1 X.2.2.2.1 dX1_jumperOf_95 rfl k) ?_
    exact a_ireturn X Z.2.2.1 Z.2.2.2.1 dX1_jumperOf_102 hf
  have hf := ite_f c5 hf
  have n0 := lv_neT (a := 0) c0 rfl
  have n1 := lv_neT (a := 1) c1 rfl
  have n2 := lv_neT (a := 2) c2 rfl
  have n3 := lv_neT (a := 3) c3 rfl
  have n4 := lv_neT (a := 4) c4 rfl
  have n5 := lv_neT (a := 5) c5 rfl
  refine AW.lift (fun _ _ _ _ k => lv_tableOut (pc := 17) (tgt := 98) X.2.2.1 X.2.2.2.1 dX1_jumperOf_17 (by omega) rfl k) ?_
  refine a_aload_n (pc := 98) X dX1_jumperOf_98 rfl hl 0 rfl ?_
  refine a_getN (pc := 99) (φ := 503) pI_t X Z.1.2.1 (gnF X.1 X.2.1 q920) (fun _ q => q) (by decide) dX1_jumperOf_99 hf (fun x99 hf => ?_)
  exact a_ireturn X Z.2.2.1 Z.2.2.2.1 dX1_jumperOf_102 hf
theorem np_X0_jumperOf : npar yX0_jumperOf.desc 4 := by unfold npar; decide +kernel
theorem hy_X0_jumperOf : yX0_jumperOf.cls ≠ "java/lang/invoke/MethodHandle" ∧ yX0_jumperOf.cls ≠ "java/lang/invoke/VarHandle" := by decide +kernel
theorem w_X0_jumperOf (GA : GA l s0 a0 K lam) (v0 : Option Nat) (v1 : Int32) (v2 : Int32) (v3 : Option Nat) : AMet l s0 K lam yX0_jumperOf (Cond.codeWith yX0_jumperOf cX0_jumperOf (5 : Nat) (Option.some ClassFile.FieldType.int) [((0 : Nat), (10 : Nat), (13 : Nat), (19 : Nat)), ((0 : Nat), (10 : Nat), (17 : Nat), (28 : Nat))]) 11 464 [vR v0, vI v1, vI v2, vR v3] oI (f_X0_jumperOf K v0 v1 v2 v3) := by
  refine AMet.ofW GA.1 (plainFor_of_name (by decide +kernel)) (Nat.le_of_ble_eq_true rfl) ?_
  intro b r hf p e s m args below meth c X hr hlk hnm hnd ht ls hl
  have Z : WZ l s0 a0 K p s m c cX0_jumperOf yX0_jumperOf.cls 5 b { frames := 11, cells := K 0 - aX b, slots := K 1 - aW b, locals := 464 } 11 464 meth [(0, 10, 13, 19), (0, 10, 17, 28)] (some (.int)) yX0_jumperOf := ⟨⟨X, GA.2.1, GA.2.2.1, rfl, rfl, Nat.le_refl _, Nat.le_refl _⟩, ht, hr, hlk, hnm, hnd⟩
  unfold f_X0_jumperOf at hf
  clear hr hlk hnm hnd ht
  refine a_aload_n (pc := 0) X dX0_jumperOf_0 rfl hl 3 rfl ?_
  refine AW.lift (fun _ _ _ _ k => lv_iconst (pc := 1) (v := (0 : Int32)) X.2.2.1 X.2.2.2.1 dX0_jumperOf_1 rfl k) ?_
  refine a_aload_n (pc := 2) X dX0_jumperOf_2 rfl hl 0 rfl ?_
  refine a_iload_n (pc := 3) X dX0_jumperOf_3 rfl hl 1 rfl ?_
  refine a_iload_n (pc := 4) X dX0_jumperOf_4 rfl hl 2 rfl ?_
  obtain ⟨a5, rfl, ⟨hk, hf⟩ | ⟨-, hf⟩⟩ := dv_tsome hf
  rotate_left
  · exact fl_tnone hf
  refine a_callt (pc := 5) (rs := [vI (0 : Int32), vR v3]) (avs := [vR (some a5), vI v1, vI v2]) Z.1 (w_X1_jumperOf GA (some a5) v1 v2) (Or.inl rfl) q2314 q74 (by decide) (by decide) dX0_jumperOf_5 hl.1 (Nat.le_of_ble_eq_true rfl) hf (ct_V hk ⟨by decide, by decide⟩ X (Or.inl rfl) q2314 q2311 q2312 q2313 hy_X1_jumperOf np_X1_jumperOf rfl dX0_jumperOf_5) (fun q h hf hX => ?hx5) (fun x5 h hf => ?kk5)
  case hx5 =>
    rcases ctc_some hf with ⟨hy, hf⟩ | ⟨hn0, hf⟩
    · refine a_catchH (st := 0) (en := 10) (hp := 13) (ct := 19) (pre := []) (suf := [(0, 10, 17, 28)]) X hX Z.2.1 rfl (fun z hz => nomatch hz) (by decide) (Or.inr ⟨by decide, _, gw X.1 X.2.1 q1786, (cs_X19 GA) _ hy⟩) (AW.eq (g2 := F0 m 13 ls [va_rf (some q)]) rfl ?_)
      refine a_astore (pc := 13) X dX0_jumperOf_13 hl (by decide) (lv' := [(4, vR (some q)), (0, vR (some a5)), (1, vI v1), (2, vI v2), (3, vR v3)]) rfl (fun ls hl => ?_)
      refine AW.lift (fun _ _ _ _ k => lv_iconst (pc := 15) (v := (1 : Int32)) X.2.2.1 X.2.2.2.1 dX0_jumperOf_15 rfl k) ?_
      exact a_ireturn X Z.2.2.1 Z.2.2.2.1 dX0_jumperOf_16 hf
    · skip
      rcases ctc_some hf with ⟨hy, hf⟩ | ⟨hn1, hf⟩
      · refine a_catchH (st := 0) (en := 10) (hp := 17) (ct := 28) (pre := [(0, 10, 13, 19)]) (suf := []) X hX Z.2.1 rfl (by intro z hz; simp only [List.mem_cons, List.not_mem_nil, or_false] at hz; rcases hz with rfl <;> first | exact Or.inl (by decide) | exact Or.inr ⟨by decide, _, gw X.1 X.2.1 q1786, (nc_12_13_14_16_17_18_20_21_java_lang_IndexOutOfBoundsException GA _ (by simpa using hn0)).2.2⟩) (by decide) (Or.inr ⟨by decide, _, gw X.1 X.2.1 q1873, (cs_X17 GA) _ hy⟩) (AW.eq (g2 := F0 m 17 ls [va_rf (some q)]) rfl ?_)
        refine a_astore (pc := 17) X dX0_jumperOf_17 hl (by decide) (lv' := [(4, vR (some q)), (0, vR (some a5)), (1, vI v1), (2, vI v2), (3, vR v3)]) rfl (fun ls hl => ?_)
        refine AW.lift (fun _ _ _ _ k => lv_iconst (pc := 19) (v := (2 : Int32)) X.2.2.1 X.2.2.2.1 dX0_jumperOf_19 rfl k) ?_
        exact a_ireturn X Z.2.2.1 Z.2.2.2.1 dX0_jumperOf_20 hf
      · skip
        exact a_outH X Z.2.1 (by intro z hz; simp only [List.mem_cons, List.not_mem_nil, or_false] at hz; rcases hz with rfl | rfl <;> first | exact Or.inl (by decide) | exact Or.inr ⟨by decide, _, gw X.1 X.2.1 q1786, (nc_12_13_14_16_17_18_20_21_java_lang_IndexOutOfBoundsException GA _ (by simpa using hn0)).2.2⟩ | exact Or.inr ⟨by decide, _, gw X.1 X.2.1 q1873, (nc_12_13_14_16_18_19_20_21_java_lang_IllegalArgumentException GA _ (by simpa using hn1)).2.2⟩) Z.2.2.2.1 (th_eq hf) hX
  refine AW.eq (g2 := F0 m 8 ls [.int x5, .int (0 : Int32), va_rf v3]) rfl ?_
  refine AW.lift (fun _ _ _ _ k => lv_i2l (pc := 8) X.2.2.1 X.2.2.2.1 dX0_jumperOf_8 rfl k) ?_
  refine a_lastore (pc := 9) X dX0_jumperOf_9 hf (fun h hf => ?_)
  refine AW.lift (fun _ _ _ _ k => lv_goto (pc := 10) (tgt := 21) X.2.2.1 X.2.2.2.1 dX0_jumperOf_10 rfl k) ?_
  refine AW.lift (fun _ _ _ _ k => lv_iconst (pc := 21) (v := (0 : Int32)) X.2.2.1 X.2.2.2.1 dX0_jumperOf_21 rfl k) ?_
  exact a_ireturn X Z.2.2.1 Z.2.2.2.1 dX0_jumperOf_22 hf
theorem np_X4_jumperOf : npar yX4_jumperOf.desc 2 := by unfold npar; decide +kernel
theorem hy_X4_jumperOf : yX4_jumperOf.cls ≠ "java/lang/invoke/MethodHandle" ∧ yX4_jumperOf.cls ≠ "java/lang/invoke/VarHandle" := by decide +kernel
theorem w_X4_jumperOf (GA : GA l s0 a0 K lam) (v0 : Option Nat) (v1 : Int32) (v2 : Int32) : AMet l s0 K lam yX4_jumperOf (Cond.code yX4_jumperOf cX4_jumperOf (3 : Nat) (Option.some ClassFile.FieldType.int)) 2 46 [vR v0, vI v1, vI v2] oI (f_X4_jumperOf K v0 v1 v2) := by
  refine AMet.of GA.1 (plainFor_of_name (by decide +kernel)) (Nat.le_of_ble_eq_true rfl) ?_
  intro b r hf p e s m args below meth c X hr hlk hnm hnd ht ls hl
  have Z : WZ l s0 a0 K p s m c cX4_jumperOf yX4_jumperOf.cls 3 b { frames := 2, cells := K 0 - aX b, slots := K 1 - aW b, locals := 46 } 2 46 meth [] (some (.int)) yX4_jumperOf := ⟨⟨X, GA.2.1, GA.2.2.1, rfl, rfl, Nat.le_refl _, Nat.le_refl _⟩, tab_nil ht, hr, hlk, hnm, hnd⟩
  unfold f_X4_jumperOf at hf
  clear hr hlk hnm hnd ht
  refine a_aload_n (pc := 0) X dX4_jumperOf_0 rfl hl 0 rfl ?_
  refine AW.lift (fun _ _ _ _ k => lv_iconst (pc := 1) (v := (0 : Int32)) X.2.2.1 X.2.2.2.1 dX4_jumperOf_1 rfl k) ?_
  refine a_put (pc := 2) (φ := 107) X Z.1.2.1 Z.1.2.2.1 (gw X.1 X.2.1 q3032) (fun _ q => q) (by decide) rfl rfl dX4_jumperOf_2 hf (fun h hf => ?_)
  refine a_aload_n (pc := 5) X dX4_jumperOf_5 rfl hl 0 rfl ?_
  refine a_iload_n (pc := 6) X dX4_jumperOf_6 rfl hl 1 rfl ?_
  obtain ⟨a7, rfl, ⟨hk, hf⟩ | ⟨-, hf⟩⟩ := dv_some hf
  rotate_left
  · exact fl_none hf
  refine a_callb (pc := 7) (rs := []) (avs := [vR (some a7), vI v1]) Z.1 (w_X4_isJumper GA (some a7) v1) (Or.inl rfl) q3221 q86 (by decide) (by decide) dX4_jumperOf_7 hl.1 (Nat.le_of_ble_eq_true rfl) hf (ct_V hk ⟨by decide, by decide⟩ X (Or.inl rfl) q3221 q3218 q3220 pv_44 hy_X4_isJumper np_X4_isJumper rfl dX4_jumperOf_7) (fun q h he hX => a_out (unc_of Z.2.1 rfl) Z.2.2.2.1 he hX) (fun x7 h hf => ?kk7)
  refine AW.eq (g2 := F0 m 10 ls [.int x7]) rfl ?_
  refine AW.lift2 (fun _ _ _ _ k1 k2 => lv_if_ne (pc := 10) (tgt := 19) X.2.2.1 X.2.2.2.1 dX4_jumperOf_10 rfl k2 k1) (fun c => ?_) (fun c => ?_)
  · have hf := ite_t c hf
    refine a_aload_n (pc := 13) X dX4_jumperOf_13 rfl hl 0 rfl ?_
    refine AW.lift (fun _ _ _ _ k => lv_iconst (pc := 14) (v := (1 : Int32)) X.2.2.1 X.2.2.2.1 dX4_jumperOf_14 rfl k) ?_
    rcases dv_someS hf with ⟨hk, hf⟩ | ⟨-, hf⟩
    rotate_left
    · exact fl_none hf
    refine a_callb (pc := 15) (rs := []) (avs := [vR (some a7), vI (1 : Int32)]) Z.1 (w_X4_throwing GA (some a7) (1 : Int32)) (Or.inl rfl) q3120 q86 (by decide) (by decide) dX4_jumperOf_15 hl.1 (Nat.le_of_ble_eq_true rfl) hf (ct_V hk ⟨by decide, by decide⟩ X (Or.inl rfl) q3120 q3117 q3119 pv_30 hy_X4_throwing np_X4_throwing rfl dX4_jumperOf_15) (fun q h he hX => a_out (unc_of Z.2.1 rfl) Z.2.2.2.1 he hX) (fun x15 h hf => ?kk15)
    refine AW.eq (g2 := F0 m 18 ls [.int x15]) rfl ?_
    exact a_ireturn X Z.2.2.1 Z.2.2.2.1 dX4_jumperOf_18 hf
  · have hf := ite_f c hf
    refine a_iload_n (pc := 19) X dX4_jumperOf_19 rfl hl 2 rfl ?_
    refine AW.lift (fun _ _ _ _ k => lv_i2l (pc := 20) X.2.2.1 X.2.2.2.1 dX4_jumperOf_20 rfl k) ?_
    refine AW.lift (fun _ _ _ _ k => lv_lconst (pc := 21) (v := (0 : Int64)) X.2.2.1 X.2.2.2.1 dX4_jumperOf_21 rfl k) ?_
    refine AW.lift (fun _ _ _ _ k => lv_ldc2 (pc := 22) X.2.2.1 X.2.2.2.1 X.2.2.2.2.1 (gw X.1 X.2.1 q3271) dX4_jumperOf_22 k) ?_
    refine a_callb (pc := 25) (rs := []) (avs := [vJ (v2.toInt64), vJ (0 : Int64), vJ (6 : Int64)]) Z.1 (w_X4_in GA (v2.toInt64) (0 : Int64) (6 : Int64)) (Or.inl rfl) q3142 q86 (by decide) (by decide) dX4_jumperOf_25 hl.1 (Nat.le_of_ble_eq_true rfl) hf (ct_S X (Or.inl rfl) q3142 q86 q3140 q3141 hy_X4_in np_X4_in rfl dX4_jumperOf_25) (fun q h he hX => a_out (unc_of Z.2.1 rfl) Z.2.2.2.1 he hX) (fun x25 h hf => ?kk25)
    refine AW.eq (g2 := F0 m 28 ls [.int x25]) rfl ?_
    refine AW.lift2 (fun _ _ _ _ k1 k2 => lv_if_eq (pc := 28) (tgt := 45) X.2.2.1 X.2.2.2.1 dX4_jumperOf_28 rfl k1 k2) (fun c => ?_) (fun c => ?_)
    · have hf := ite_t c hf
      refine a_aload_n (pc := 45) X dX4_jumperOf_45 rfl hl 0 rfl ?_
      refine AW.lift (fun _ _ _ _ k => lv_iconst (pc := 46) (v := (2 : Int32)) X.2.2.1 X.2.2.2.1 dX4_jumperOf_46 rfl k) ?_
      rcases dv_someS hf with ⟨hk, hf⟩ | ⟨-, hf⟩
      rotate_left
      · exact fl_none hf
      refine a_callb (pc := 47) (rs := []) (avs := [vR (some a7), vI (2 : Int32)]) Z.1 (w_X4_throwing GA (some a7) (2 : Int32)) (Or.inl rfl) q3120 q86 (by decide) (by decide) dX4_jumperOf_47 hl.1 (Nat.le_of_ble_eq_true rfl) hf (ct_V hk ⟨by decide, by decide⟩ X (Or.inl rfl) q3120 q3117 q3119 pv_30 hy_X4_throwing np_X4_throwing rfl dX4_jumperOf_47) (fun q h he hX => a_out (unc_of Z.2.1 rfl) Z.2.2.2.1 he hX) (fun x47 h hf => ?kk47)
      refine AW.eq (g2 := F0 m 50 ls [.int x47]) rfl ?_
      exact a_ireturn X Z.2.2.1 Z.2.2.2.1 dX4_jumperOf_50 hf
    · have hf := ite_f c hf
      refine a_aload_n (pc := 31) X dX4_jumperOf_31 rfl hl 0 rfl ?_
      refine a_get (pc := 32) (φ := 100) pR_t X Z.1.2.1 (gw X.1 X.2.1 q3025) (fun _ q => q) (by decide) dX4_jumperOf_32 hf (fun x32 hf => ?_)
      refine a_iload_n (pc := 35) X dX4_jumperOf_35 rfl hl 1 rfl ?_
      refine a_callb (pc := 36) (rs := [vR x32]) (avs := [vI v1]) Z.1 (w_X4_at0 GA v1) (Or.inl rfl) q3154 q86 (by decide) (by decide) dX4_jumperOf_36 hl.1 (Nat.le_of_ble_eq_true rfl) hf (ct_S X (Or.inl rfl) q3154 q86 q3152 q3153 hy_X4_at0 np_X4_at0 rfl dX4_jumperOf_36) (fun q h he hX => a_out (unc_of Z.2.1 rfl) Z.2.2.2.1 he hX) (fun x36 h hf => ?kk36)
      refine AW.eq (g2 := F0 m 39 ls [.int x36, va_rf x32]) rfl ?_
      refine a_iload_n (pc := 39) X dX4_jumperOf_39 rfl hl 2 rfl ?_
      refine AW.lift (fun _ _ _ _ k => lv_iadd (pc := 40) X.2.2.1 X.2.2.2.1 dX4_jumperOf_40 k) ?_
      refine a_iaload (pc := 41) X dX4_jumperOf_41 hf (fun x41 hf => ?_)
      refine AW.lift (fun _ _ _ _ k => lv_goto (pc := 42) (tgt := 50) X.2.2.1 X.2.2.2.1 dX4_jumperOf_42 rfl k) ?_
      exact a_ireturn X Z.2.2.1 Z.2.2.2.1 dX4_jumperOf_50 hf
theorem w_X2_bestSize_j32 {r : Except Nat (Int32) × AH} (GA : GA l s0 a0 K lam) (Z : WZ l s0 a0 K p s m c cX2_bestSize yX2_bestSize.cls 5 b R 12 486 meth [] (some (.int)) yX2_bestSize) (v0 : Option Nat) (v2 : Int32) (v3 : Int32) (v4 : Int32) (t0 : Int32) (rc6 : Int32 → Int32 → Int32 → AM (Int32)) (hrc6 : ∀ (v1 : Int32) (v2 : Int32) (v3 : Int32) (h : AH) (ls : Array Slot), LV ls 5 [(0, vR v0), (1, vI v1), (2, vI v2), (3, vI v3)] → rc6 v1 v2 v3 h = some r → AW s0 K lam p l e R s m args below meth c (AQ s0 K lam below oI b r s) b h (F0 m 6 ls [])) {h : AH} {ls : Array Slot} (hl : LV ls 5 [(0, vR v0), (2, vI v2), (3, vI v3), (4, vI v4)]) (hf : f_X2_bestSize_j32 K rc6 v0 v2 v3 v4 t0 h = some r) : AW s0 K lam p l e R s m args below meth c (AQ s0 K lam below oI b r s) b h (F0 m 32 ls [.int t0]) := by
  unfold f_X2_bestSize_j32 at hf
  have X := Z.1.1
  refine a_istore_n (pc := 32) X dX2_bestSize_32 rfl hl (by decide) (lv' := [(1, vI t0), (0, vR v0), (2, vI v2), (3, vI v3), (4, vI v4)]) rfl (fun ls hl => ?_)
  refine a_iload_n (pc := 33) X dX2_bestSize_33 rfl hl 2 rfl ?_
  refine a_iload (pc := 34) X dX2_bestSize_34 hl 4 rfl ?_
  refine AW.lift_c Z.1 (fun _ _ _ _ hc hs k => va_mmax (pc := 36) X.2.2.1 X.2.2.2.1 (X.2.2.2.2.2.trans hl.1.symm) X.2.2.2.2.1 (gw X.1 X.2.1 q2334) (gw X.1 X.2.1 q565) (gw X.1 X.2.1 q93) (gw X.1 X.2.1 q566) (Nat.le_trans (by decide) Z.1.2.2.2.2.2.1) (cat_le (rs := []) (Nat.le_of_ble_eq_true rfl) Z.1.2.2.2.2.2.2) hc hs dX2_bestSize_36 k) ?_
  refine AW.eq (g2 := F0 m 39 ls [.int (if v2 < v4 then v4 else v2)]) rfl ?_
  refine a_istore_n (pc := 39) X dX2_bestSize_39 rfl hl (by decide) (lv' := [(2, vI (if v2 < v4 then v4 else v2)), (1, vI t0), (0, vR v0), (3, vI v3), (4, vI v4)]) rfl (fun ls hl => ?_)
  refine a_iinc (pc := 40) (v := (v3 + (1 : Int32))) X dX2_bestSize_40 hl (k := 3) rfl rfl (by decide) (lv' := [(3, vI (v3 + (1 : Int32))), (2, vI (if v2 < v4 then v4 else v2)), (1, vI t0), (0, vR v0), (4, vI v4)]) rfl (fun ls hl => ?_)
  refine AW.lift (fun _ _ _ _ k => lv_goto (pc := 43) (tgt := 6) X.2.2.1 X.2.2.2.1 dX2_bestSize_43 rfl k) ?_
  exact hrc6 t0 (if v2 < v4 then v4 else v2) (v3 + (1 : Int32)) _ _ (hl.sub [3, 2, 1, 0] rfl) hf
theorem w_X2_bestSize_b6 {r : Except Nat (Int32) × AH} (GA : GA l s0 a0 K lam) (Z : WZ l s0 a0 K p s m c cX2_bestSize yX2_bestSize.cls 5 b R 12 486 meth [] (some (.int)) yX2_bestSize) (v0 : Option Nat) (v1 : Int32) (v2 : Int32) (v3 : Int32)  (rc6 : Int32 → Int32 → Int32 → AM (Int32)) (hrc6 : ∀ (v1 : Int32) (v2 : Int32) (v3 : Int32) (h : AH) (ls : Array Slot), LV ls 5 [(0, vR v0), (1, vI v1), (2, vI v2), (3, vI v3)] → rc6 v1 v2 v3 h = some r → AW s0 K lam p l e R s m args below meth c (AQ s0 K lam below oI b r s) b h (F0 m 6 ls [])) {h : AH} {ls : Array Slot} (hl : LV ls 5 [(0, vR v0), (1, vI v1), (2, vI v2), (3, vI v3)]) (hf : f_X2_bestSize_b6 K rc6 v0 v1 v2 v3 h = some r) : AW s0 K lam p l e R s m args below meth c (AQ s0 K lam below oI b r s) b h (F0 m 6 ls []) := by
  unfold f_X2_bestSize_b6 at hf
  have X := Z.1.1
  refine a_iload_n (pc := 6) X dX2_bestSize_6 rfl hl 3 rfl ?_
  refine AW.lift (fun _ _ _ _ k => lv_iconst (pc := 7) (v := (5 : Int32)) X.2.2.1 X.2.2.2.1 dX2_bestSize_7 rfl k) ?_
  refine AW.lift2 (fun _ _ _ _ k1 k2 => lv_icmp_ge (pc := 8) (tgt := 46) X.2.2.1 X.2.2.2.1 dX2_bestSize_8 rfl k1 k2) (fun c => ?_) (fun c => ?_)
  · have hf := ite_t c hf
    refine a_iload_n (pc := 46) X dX2_bestSize_46 rfl hl 1 rfl ?_
    exact a_ireturn X Z.2.2.1 Z.2.2.2.1 dX2_bestSize_47 hf
  · have hf := ite_f c hf
    refine a_aload_n (pc := 11) X dX2_bestSize_11 rfl hl 0 rfl ?_
    refine a_get (pc := 12) (φ := 305) pR_t X Z.1.2.1 (gw X.1 X.2.1 q238) (fun _ q => q) (by decide) dX2_bestSize_12 hf (fun x12 hf => ?_)
    refine a_iload_n (pc := 15) X dX2_bestSize_15 rfl hl 3 rfl ?_
    obtain ⟨a16, rfl, ⟨hk, hf⟩ | ⟨-, hf⟩⟩ := dv_some hf
    rotate_left
    · exact fl_none hf
    refine a_callb (pc := 16) (rs := []) (avs := [vR (some a16), vI v3]) Z.1 (w_X3_ofSize GA (some a16) v3) (Or.inl rfl) q2293 q79 (by decide) (by decide) dX2_bestSize_16 hl.1 (Nat.le_of_ble_eq_true rfl) hf (ct_V hk ⟨by decide, by decide⟩ X (Or.inl rfl) q2293 q2290 q2291 q2292 hy_X3_ofSize np_X3_ofSize rfl dX2_bestSize_16) (fun q h he hX => a_out (unc_of Z.2.1 rfl) Z.2.2.2.1 he hX) (fun x16 h hf => ?kk16)
    refine AW.eq (g2 := F0 m 19 ls [.int x16]) rfl ?_
    refine a_istore (pc := 19) X dX2_bestSize_19 hl (by decide) (lv' := [(4, vI x16), (0, vR v0), (1, vI v1), (2, vI v2), (3, vI v3)]) rfl (fun ls hl => ?_)
    refine a_iload (pc := 21) X dX2_bestSize_21 hl 0 rfl ?_
    refine a_iload_n (pc := 23) X dX2_bestSize_23 rfl hl 3 rfl ?_
    refine AW.lift2 (fun _ _ _ _ k1 k2 => lv_icmp_le (pc := 24) (tgt := 31) X.2.2.1 X.2.2.2.1 dX2_bestSize_24 rfl k1 k2) (fun c => ?_) (fun c => ?_)
    · have hf := ite_t c hf
      refine a_iload_n (pc := 31) X dX2_bestSize_31 rfl hl 2 rfl ?_
      exact w_X2_bestSize_j32 GA Z v0 v2 v3 x16 v1 rc6 hrc6 (hl.sub [1, 3, 4, 0] rfl) hf
    · have hf := ite_f c hf
      refine a_iload_n (pc := 27) X dX2_bestSize_27 rfl hl 4 rfl ?_
      refine AW.lift (fun _ _ _ _ k => lv_goto (pc := 28) (tgt := 32) X.2.2.1 X.2.2.2.1 dX2_bestSize_28 rfl k) ?_
      exact w_X2_bestSize_j32 GA Z v0 v2 v3 x16 v3 rc6 hrc6 (hl.sub [1, 3, 4, 0] rfl) hf
theorem w_X2_bestSize_l6 {r : Except Nat (Int32) × AH} (GA : GA l s0 a0 K lam) (Z : WZ l s0 a0 K p s m c cX2_bestSize yX2_bestSize.cls 5 b R 12 486 meth [] (some (.int)) yX2_bestSize) (v0 : Option Nat)  : ∀ (n : Nat) (v1 : Int32) (v2 : Int32) (v3 : Int32) (h : AH) (ls : Array Slot), LV ls 5 [(0, vR v0), (1, vI v1), (2, vI v2), (3, vI v3)] → f_X2_bestSize_l6 K v0 n v1 v2 v3 h = some r → AW s0 K lam p l e R s m args below meth c (AQ s0 K lam below oI b r s) b h (F0 m 6 ls []) := by
  intro n
  induction n with
  | zero => intro v1 v2 v3 h ls hl hf; exact fl_no (h := h) hf
  | succ n ih => intro v1 v2 v3 h ls hl hf; exact w_X2_bestSize_b6 GA Z v0 v1 v2 v3 (f_X2_bestSize_l6 K v0 n) ih hl hf
theorem np_X2_bestSize : npar yX2_bestSize.desc 0 := by unfold npar; decide +kernel
theorem hy_X2_bestSize : yX2_bestSize.cls ≠ "java/lang/invoke/MethodHandle" ∧ yX2_bestSize.cls ≠ "java/lang/invoke/VarHandle" := by decide +kernel
theorem w_X2_bestSize (GA : GA l s0 a0 K lam) (v0 : Option Nat) : AMet l s0 K lam yX2_bestSize (Cond.code yX2_bestSize cX2_bestSize (5 : Nat) (Option.some ClassFile.FieldType.int)) 12 486 [vR v0] oI (f_X2_bestSize K v0) := by
  refine AMet.of GA.1 (plainFor_of_name (by decide +kernel)) (Nat.le_of_ble_eq_true rfl) ?_
  intro b r hf p e s m args below meth c X hr hlk hnm hnd ht ls hl
  have Z : WZ l s0 a0 K p s m c cX2_bestSize yX2_bestSize.cls 5 b { frames := 12, cells := K 0 - aX b, slots := K 1 - aW b, locals := 486 } 12 486 meth [] (some (.int)) yX2_bestSize := ⟨⟨X, GA.2.1, GA.2.2.1, rfl, rfl, Nat.le_refl _, Nat.le_refl _⟩, tab_nil ht, hr, hlk, hnm, hnd⟩
  unfold f_X2_bestSize at hf
  clear hr hlk hnm hnd ht
  refine AW.lift (fun _ _ _ _ k => lv_iconst (pc := 0) (v := (-1 : Int32)) X.2.2.1 X.2.2.2.1 dX2_bestSize_0 rfl k) ?_
  refine a_istore_n (pc := 1) X dX2_bestSize_1 rfl hl (by decide) (lv' := [(1, vI (-1 : Int32)), (0, vR v0)]) rfl (fun ls hl => ?_)
  refine AW.lift (fun _ _ _ _ k => lv_iconst (pc := 2) (v := (0 : Int32)) X.2.2.1 X.2.2.2.1 dX2_bestSize_2 rfl k) ?_
  refine a_istore_n (pc := 3) X dX2_bestSize_3 rfl hl (by decide) (lv' := [(2, vI (0 : Int32)), (1, vI (-1 : Int32)), (0, vR v0)]) rfl (fun ls hl => ?_)
  refine AW.lift (fun _ _ _ _ k => lv_iconst (pc := 4) (v := (0 : Int32)) X.2.2.1 X.2.2.2.1 dX2_bestSize_4 rfl k) ?_
  refine a_istore_n (pc := 5) X dX2_bestSize_5 rfl hl (by decide) (lv' := [(3, vI (0 : Int32)), (2, vI (0 : Int32)), (1, vI (-1 : Int32)), (0, vR v0)]) rfl (fun ls hl => ?_)
  exact w_X2_bestSize_l6 GA Z v0  FU (-1 : Int32) (0 : Int32) (0 : Int32) _ _ (hl.sub [3, 2, 1, 0] rfl) hf
theorem w_X1_bestSize_j18 {r : Except Nat (Int32) × AH} (GA : GA l s0 a0 K lam) (Z : WZ l s0 a0 K p s m c cX1_bestSize yX1_bestSize.cls 2 b R 13 510 meth [] (some (.int)) yX1_bestSize) (v1 : Int32) (t0 : Int32)  {h : AH} {ls : Array Slot} (hl : LV ls 2 [(1, vI v1)]) (hf : f_X1_bestSize_j18 K v1 t0 h = some r) : AW s0 K lam p l e R s m args below meth c (AQ s0 K lam below oI b r s) b h (F0 m 18 ls [.int t0]) := by
  unfold f_X1_bestSize_j18 at hf
  have X := Z.1.1
  refine a_callb (pc := 18) (rs := []) (avs := [vI t0]) Z.1 (w_X1_checkElement GA t0) (Or.inl rfl) q1968 q74 (by decide) (by decide) dX1_bestSize_18 hl.1 (Nat.le_of_ble_eq_true rfl) hf (ct_S X (Or.inl rfl) q1968 q74 q1966 q1967 hy_X1_checkElement np_X1_checkElement rfl dX1_bestSize_18) (fun q h he hX => a_out (unc_of Z.2.1 rfl) Z.2.2.2.1 he hX) (fun _ h hf => ?kk18)
  refine AW.eq (g2 := F0 m 21 ls []) rfl ?_
  refine a_iload_n (pc := 21) X dX1_bestSize_21 rfl hl 0 rfl ?_
  exact a_ireturn X Z.2.2.1 Z.2.2.2.1 dX1_bestSize_22 hf
theorem np_X1_bestSize : npar yX1_bestSize.desc 0 := by unfold npar; decide +kernel
theorem hy_X1_bestSize : yX1_bestSize.cls ≠ "java/lang/invoke/MethodHandle" ∧ yX1_bestSize.cls ≠ "java/lang/invoke/VarHandle" := by decide +kernel
theorem w_X1_bestSize (GA : GA l s0 a0 K lam) (v0 : Option Nat) : AMet l s0 K lam yX1_bestSize (Cond.code yX1_bestSize cX1_bestSize (2 : Nat) (Option.some ClassFile.FieldType.int)) 13 510 [vR v0] oI (f_X1_bestSize K v0) := by
  refine AMet.of GA.1 (plainFor_of_name (by decide +kernel)) (Nat.le_of_ble_eq_true rfl) ?_
  intro b r hf p e s m args below meth c X hr hlk hnm hnd ht ls hl
  have Z : WZ l s0 a0 K p s m c cX1_bestSize yX1_bestSize.cls 2 b { frames := 13, cells := K 0 - aX b, slots := K 1 - aW b, locals := 510 } 13 510 meth [] (some (.int)) yX1_bestSize := ⟨⟨X, GA.2.1, GA.2.2.1, rfl, rfl, Nat.le_refl _, Nat.le_refl _⟩, tab_nil ht, hr, hlk, hnm, hnd⟩
  unfold f_X1_bestSize at hf
  clear hr hlk hnm hnd ht
  refine a_aload_n (pc := 0) X dX1_bestSize_0 rfl hl 0 rfl ?_
  refine a_get (pc := 1) (φ := 200) pR_t X Z.1.2.1 (gw X.1 X.2.1 q309) (fun _ q => q) (by decide) dX1_bestSize_1 hf (fun x1 hf => ?_)
  obtain ⟨a4, rfl, ⟨hk, hf⟩ | ⟨-, hf⟩⟩ := dv_some hf
  rotate_left
  · exact fl_none hf
  refine a_callb (pc := 4) (rs := []) (avs := [vR (some a4)]) Z.1 (w_X2_bestSize GA (some a4)) (Or.inl rfl) q2333 q75 (by decide) (by decide) dX1_bestSize_4 hl.1 (Nat.le_of_ble_eq_true rfl) hf (ct_V hk ⟨by decide, by decide⟩ X (Or.inl rfl) q2333 q2330 q2331 q2332 hy_X2_bestSize np_X2_bestSize rfl dX1_bestSize_4) (fun q h he hX => a_out (unc_of Z.2.1 rfl) Z.2.2.2.1 he hX) (fun x4 h hf => ?kk4)
  refine AW.eq (g2 := F0 m 7 ls [.int x4]) rfl ?_
  refine a_istore_n (pc := 7) X dX1_bestSize_7 rfl hl (by decide) (lv' := [(1, vI x4), (0, vR v0)]) rfl (fun ls hl => ?_)
  refine a_iload_n (pc := 8) X dX1_bestSize_8 rfl hl 0 rfl ?_
  refine AW.lift (fun _ _ _ _ k => lv_iconst (pc := 9) (v := (-1 : Int32)) X.2.2.1 X.2.2.2.1 dX1_bestSize_9 rfl k) ?_
  refine AW.lift2 (fun _ _ _ _ k1 k2 => lv_icmp_eq (pc := 10) (tgt := 17) X.2.2.1 X.2.2.2.1 dX1_bestSize_10 rfl k1 k2) (fun c => ?_) (fun c => ?_)
  · have hf := ite_t c hf
    refine AW.lift (fun _ _ _ _ k => lv_iconst (pc := 17) (v := (0 : Int32)) X.2.2.1 X.2.2.2.1 dX1_bestSize_17 rfl k) ?_
    exact w_X1_bestSize_j18 GA Z x4 (0 : Int32)  (hl.sub [0] rfl) hf
  · have hf := ite_f c hf
    refine AW.lift (fun _ _ _ _ k => lv_iconst (pc := 13) (v := (1 : Int32)) X.2.2.1 X.2.2.2.1 dX1_bestSize_13 rfl k) ?_
    refine AW.lift (fun _ _ _ _ k => lv_goto (pc := 14) (tgt := 18) X.2.2.1 X.2.2.2.1 dX1_bestSize_14 rfl k) ?_
    exact w_X1_bestSize_j18 GA Z x4 (1 : Int32)  (hl.sub [0] rfl) hf
theorem np_X0_bestSize : npar yX0_bestSize.desc 2 := by unfold npar; decide +kernel
theorem hy_X0_bestSize : yX0_bestSize.cls ≠ "java/lang/invoke/MethodHandle" ∧ yX0_bestSize.cls ≠ "java/lang/invoke/VarHandle" := by decide +kernel
theorem w_X0_bestSize (GA : GA l s0 a0 K lam) (v0 : Option Nat) (v1 : Option Nat) : AMet l s0 K lam yX0_bestSize (Cond.codeWith yX0_bestSize cX0_bestSize (3 : Nat) (Option.some ClassFile.FieldType.int) [((0 : Nat), (8 : Nat), (11 : Nat), (39 : Nat))]) 14 531 [vR v0, vR v1] oI (f_X0_bestSize K v0 v1) := by
  refine AMet.ofW GA.1 (plainFor_of_name (by decide +kernel)) (Nat.le_of_ble_eq_true rfl) ?_
  intro b r hf p e s m args below meth c X hr hlk hnm hnd ht ls hl
  have Z : WZ l s0 a0 K p s m c cX0_bestSize yX0_bestSize.cls 3 b { frames := 14, cells := K 0 - aX b, slots := K 1 - aW b, locals := 531 } 14 531 meth [(0, 8, 11, 39)] (some (.int)) yX0_bestSize := ⟨⟨X, GA.2.1, GA.2.2.1, rfl, rfl, Nat.le_refl _, Nat.le_refl _⟩, ht, hr, hlk, hnm, hnd⟩
  unfold f_X0_bestSize at hf
  clear hr hlk hnm hnd ht
  refine a_aload_n (pc := 0) X dX0_bestSize_0 rfl hl 1 rfl ?_
  refine AW.lift (fun _ _ _ _ k => lv_iconst (pc := 1) (v := (0 : Int32)) X.2.2.1 X.2.2.2.1 dX0_bestSize_1 rfl k) ?_
  refine a_aload_n (pc := 2) X dX0_bestSize_2 rfl hl 0 rfl ?_
  obtain ⟨a3, rfl, ⟨hk, hf⟩ | ⟨-, hf⟩⟩ := dv_tsome hf
  rotate_left
  · exact fl_tnone hf
  refine a_callt (pc := 3) (rs := [vI (0 : Int32), vR v1]) (avs := [vR (some a3)]) Z.1 (w_X1_bestSize GA (some a3)) (Or.inl rfl) q2329 q74 (by decide) (by decide) dX0_bestSize_3 hl.1 (Nat.le_of_ble_eq_true rfl) hf (ct_V hk ⟨by decide, by decide⟩ X (Or.inl rfl) q2329 q2326 q2327 q2328 hy_X1_bestSize np_X1_bestSize rfl dX0_bestSize_3) (fun q h hf hX => ?hx3) (fun x3 h hf => ?kk3)
  case hx3 =>
    rcases ctc_some hf with ⟨hy, hf⟩ | ⟨hn0, hf⟩
    · refine a_catchH (st := 0) (en := 8) (hp := 11) (ct := 39) (pre := []) (suf := []) X hX Z.2.1 rfl (fun z hz => nomatch hz) (by decide) (Or.inr ⟨by decide, _, gw X.1 X.2.1 q1961, (cs_X20 GA) _ hy⟩) (AW.eq (g2 := F0 m 11 ls [va_rf (some q)]) rfl ?_)
      refine a_astore_n (pc := 11) X dX0_bestSize_11 rfl hl (by decide) (lv' := [(2, vR (some q)), (0, vR (some a3)), (1, vR v1)]) rfl (fun ls hl => ?_)
      refine AW.lift (fun _ _ _ _ k => lv_iconst (pc := 12) (v := (1 : Int32)) X.2.2.1 X.2.2.2.1 dX0_bestSize_12 rfl k) ?_
      exact a_ireturn X Z.2.2.1 Z.2.2.2.1 dX0_bestSize_13 hf
    · skip
      exact a_outH X Z.2.1 (by intro z hz; simp only [List.mem_cons, List.not_mem_nil, or_false] at hz; rcases hz with rfl <;> first | exact Or.inl (by decide) | exact Or.inr ⟨by decide, _, gw X.1 X.2.1 q1961, (nc_12_13_14_16_17_18_19_21_java_util_NoSuchElementException GA _ (by simpa using hn0)).2.2⟩) Z.2.2.2.1 (th_eq hf) hX
  refine AW.eq (g2 := F0 m 6 ls [.int x3, .int (0 : Int32), va_rf v1]) rfl ?_
  refine AW.lift (fun _ _ _ _ k => lv_i2l (pc := 6) X.2.2.1 X.2.2.2.1 dX0_bestSize_6 rfl k) ?_
  refine a_lastore (pc := 7) X dX0_bestSize_7 hf (fun h hf => ?_)
  refine AW.lift (fun _ _ _ _ k => lv_goto (pc := 8) (tgt := 14) X.2.2.1 X.2.2.2.1 dX0_bestSize_8 rfl k) ?_
  refine AW.lift (fun _ _ _ _ k => lv_iconst (pc := 14) (v := (0 : Int32)) X.2.2.1 X.2.2.2.1 dX0_bestSize_14 rfl k) ?_
  exact a_ireturn X Z.2.2.1 Z.2.2.2.1 dX0_bestSize_15 hf
theorem w_X4_bestSize_j45 {r : Except Nat (Int32) × AH} (GA : GA l s0 a0 K lam) (Z : WZ l s0 a0 K p s m c cX4_bestSize yX4_bestSize.cls 3 b R 1 22 meth [] (some (.int)) yX4_bestSize) (v0 : Option Nat) (v1 : Int32)   {h : AH} {ls : Array Slot} (hl : LV ls 3 [(0, vR v0), (1, vI v1)]) (hf : f_X4_bestSize_j45 K v0 v1 h = some r) : AW s0 K lam p l e R s m args below meth c (AQ s0 K lam below oI b r s) b h (F0 m 45 ls []) := by
  unfold f_X4_bestSize_j45 at hf
  have X := Z.1.1
  refine a_aload_n (pc := 45) X dX4_bestSize_45 rfl hl 0 rfl ?_
  refine AW.lift (fun _ _ _ _ k => lv_sipush (pc := 46) (v := (167 : Int32)) X.2.2.1 X.2.2.2.1 dX4_bestSize_46 rfl k) ?_
  refine a_iload_n (pc := 49) X dX4_bestSize_49 rfl hl 1 rfl ?_
  obtain ⟨a50, rfl, ⟨hk, hf⟩ | ⟨-, hf⟩⟩ := dv_some hf
  rotate_left
  · exact fl_none hf
  refine a_callb (pc := 50) (rs := []) (avs := [vR (some a50), vI (167 : Int32), vI v1]) Z.1 (w_X4_ofSize GA (some a50) (167 : Int32) v1) (Or.inl rfl) q3266 q86 (by decide) (by decide) dX4_bestSize_50 hl.1 (Nat.le_of_ble_eq_true rfl) hf (ct_V hk ⟨by decide, by decide⟩ X (Or.inl rfl) q3266 q3263 q3265 pv_50 hy_X4_ofSize np_X4_ofSize rfl dX4_bestSize_50) (fun q h he hX => a_out (unc_of Z.2.1 rfl) Z.2.2.2.1 he hX) (fun x50 h hf => ?kk50)
  refine AW.eq (g2 := F0 m 53 ls [.int x50]) rfl ?_
  refine AW.lift2 (fun _ _ _ _ k1 k2 => lv_if_ne (pc := 53) (tgt := 64) X.2.2.1 X.2.2.2.1 dX4_bestSize_53 rfl k2 k1) (fun c => ?_) (fun c => ?_)
  · have hf := ite_t c hf
    refine a_aload_n (pc := 56) X dX4_bestSize_56 rfl hl 0 rfl ?_
    refine AW.lift (fun _ _ _ _ k => lv_iconst (pc := 57) (v := (1 : Int32)) X.2.2.1 X.2.2.2.1 dX4_bestSize_57 rfl k) ?_
    rcases dv_someS hf with ⟨hk, hf⟩ | ⟨-, hf⟩
    rotate_left
    · exact fl_none hf
    refine a_callb (pc := 58) (rs := []) (avs := [vR (some a50), vI (1 : Int32)]) Z.1 (w_X4_throwing GA (some a50) (1 : Int32)) (Or.inl rfl) q3120 q86 (by decide) (by decide) dX4_bestSize_58 hl.1 (Nat.le_of_ble_eq_true rfl) hf (ct_V hk ⟨by decide, by decide⟩ X (Or.inl rfl) q3120 q3117 q3119 pv_30 hy_X4_throwing np_X4_throwing rfl dX4_bestSize_58) (fun q h he hX => a_out (unc_of Z.2.1 rfl) Z.2.2.2.1 he hX) (fun x58 h hf => ?kk58)
    refine AW.eq (g2 := F0 m 61 ls [.int x58]) rfl ?_
    refine AW.lift (fun _ _ _ _ k => lv_goto (pc := 61) (tgt := 65) X.2.2.1 X.2.2.2.1 dX4_bestSize_61 rfl k) ?_
    exact a_ireturn X Z.2.2.1 Z.2.2.2.1 dX4_bestSize_65 hf
  · have hf := ite_f c hf
    refine a_iload_n (pc := 64) X dX4_bestSize_64 rfl hl 1 rfl ?_
    exact a_ireturn X Z.2.2.1 Z.2.2.2.1 dX4_bestSize_65 hf
theorem w_X4_bestSize_j38 {r : Except Nat (Int32) × AH} (GA : GA l s0 a0 K lam) (Z : WZ l s0 a0 K p s m c cX4_bestSize yX4_bestSize.cls 3 b R 1 22 meth [] (some (.int)) yX4_bestSize) (v0 : Option Nat) (v2 : Int32) (t0 : Int32) (rc9 : Int32 → Int32 → AM (Int32)) (hrc9 : ∀ (v1 : Int32) (v2 : Int32) (h : AH) (ls : Array Slot), LV ls 3 [(0, vR v0), (1, vI v1), (2, vI v2)] → rc9 v1 v2 h = some r → AW s0 K lam p l e R s m args below meth c (AQ s0 K lam below oI b r s) b h (F0 m 9 ls [])) {h : AH} {ls : Array Slot} (hl : LV ls 3 [(0, vR v0), (2, vI v2)]) (hf : f_X4_bestSize_j38 K rc9 v0 v2 t0 h = some r) : AW s0 K lam p l e R s m args below meth c (AQ s0 K lam below oI b r s) b h (F0 m 38 ls [.int t0]) := by
  unfold f_X4_bestSize_j38 at hf
  have X := Z.1.1
  refine a_istore_n (pc := 38) X dX4_bestSize_38 rfl hl (by decide) (lv' := [(1, vI t0), (0, vR v0), (2, vI v2)]) rfl (fun ls hl => ?_)
  refine a_iinc (pc := 39) (v := (v2 + (1 : Int32))) X dX4_bestSize_39 hl (k := 2) rfl rfl (by decide) (lv' := [(2, vI (v2 + (1 : Int32))), (1, vI t0), (0, vR v0)]) rfl (fun ls hl => ?_)
  refine AW.lift (fun _ _ _ _ k => lv_goto (pc := 42) (tgt := 9) X.2.2.1 X.2.2.2.1 dX4_bestSize_42 rfl k) ?_
  exact hrc9 t0 (v2 + (1 : Int32)) _ _ (hl.sub [2, 1, 0] rfl) hf
theorem w_X4_bestSize_b9 {r : Except Nat (Int32) × AH} (GA : GA l s0 a0 K lam) (Z : WZ l s0 a0 K p s m c cX4_bestSize yX4_bestSize.cls 3 b R 1 22 meth [] (some (.int)) yX4_bestSize) (v0 : Option Nat) (v1 : Int32) (v2 : Int32)  (rc9 : Int32 → Int32 → AM (Int32)) (hrc9 : ∀ (v1 : Int32) (v2 : Int32) (h : AH) (ls : Array Slot), LV ls 3 [(0, vR v0), (1, vI v1), (2, vI v2)] → rc9 v1 v2 h = some r → AW s0 K lam p l e R s m args below meth c (AQ s0 K lam below oI b r s) b h (F0 m 9 ls [])) {h : AH} {ls : Array Slot} (hl : LV ls 3 [(0, vR v0), (1, vI v1), (2, vI v2)]) (hf : f_X4_bestSize_b9 K rc9 v0 v1 v2 h = some r) : AW s0 K lam p l e R s m args below meth c (AQ s0 K lam below oI b r s) b h (F0 m 9 ls []) := by
  unfold f_X4_bestSize_b9 at hf
  have X := Z.1.1
  refine a_iload_n (pc := 9) X dX4_bestSize_9 rfl hl 2 rfl ?_
  refine AW.lift (fun _ _ _ _ k => lv_iconst (pc := 10) (v := (5 : Int32)) X.2.2.1 X.2.2.2.1 dX4_bestSize_10 rfl k) ?_
  refine AW.lift2 (fun _ _ _ _ k1 k2 => lv_icmp_ge (pc := 11) (tgt := 45) X.2.2.1 X.2.2.2.1 dX4_bestSize_11 rfl k1 k2) (fun c => ?_) (fun c => ?_)
  · have hf := ite_t c hf
    exact w_X4_bestSize_j45 GA Z v0 v1   (hl.sub [0, 1] rfl) hf
  · have hf := ite_f c hf
    refine a_aload_n (pc := 14) X dX4_bestSize_14 rfl hl 0 rfl ?_
    refine AW.lift (fun _ _ _ _ k => lv_sipush (pc := 15) (v := (167 : Int32)) X.2.2.1 X.2.2.2.1 dX4_bestSize_15 rfl k) ?_
    refine a_iload_n (pc := 18) X dX4_bestSize_18 rfl hl 2 rfl ?_
    obtain ⟨a19, rfl, ⟨hk, hf⟩ | ⟨-, hf⟩⟩ := dv_some hf
    rotate_left
    · exact fl_none hf
    refine a_callb (pc := 19) (rs := []) (avs := [vR (some a19), vI (167 : Int32), vI v2]) Z.1 (w_X4_ofSize GA (some a19) (167 : Int32) v2) (Or.inl rfl) q3266 q86 (by decide) (by decide) dX4_bestSize_19 hl.1 (Nat.le_of_ble_eq_true rfl) hf (ct_V hk ⟨by decide, by decide⟩ X (Or.inl rfl) q3266 q3263 q3265 pv_50 hy_X4_ofSize np_X4_ofSize rfl dX4_bestSize_19) (fun q h he hX => a_out (unc_of Z.2.1 rfl) Z.2.2.2.1 he hX) (fun x19 h hf => ?kk19)
    refine AW.eq (g2 := F0 m 22 ls [.int x19]) rfl ?_
    refine a_aload_n (pc := 22) X dX4_bestSize_22 rfl hl 0 rfl ?_
    refine AW.lift (fun _ _ _ _ k => lv_sipush (pc := 23) (v := (167 : Int32)) X.2.2.1 X.2.2.2.1 dX4_bestSize_23 rfl k) ?_
    refine a_iload_n (pc := 26) X dX4_bestSize_26 rfl hl 1 rfl ?_
    rcases dv_someS hf with ⟨hk, hf⟩ | ⟨-, hf⟩
    rotate_left
    · exact fl_none hf
    refine a_callb (pc := 27) (rs := [vI x19]) (avs := [vR (some a19), vI (167 : Int32), vI v1]) Z.1 (w_X4_ofSize GA (some a19) (167 : Int32) v1) (Or.inl rfl) q3266 q86 (by decide) (by decide) dX4_bestSize_27 hl.1 (Nat.le_of_ble_eq_true rfl) hf (ct_V hk ⟨by decide, by decide⟩ X (Or.inl rfl) q3266 q3263 q3265 pv_50 hy_X4_ofSize np_X4_ofSize rfl dX4_bestSize_27) (fun q h he hX => a_out (unc_of Z.2.1 rfl) Z.2.2.2.1 he hX) (fun x27 h hf => ?kk27)
    refine AW.eq (g2 := F0 m 30 ls [.int x27, .int x19]) rfl ?_
    refine AW.lift2 (fun _ _ _ _ k1 k2 => lv_icmp_le (pc := 30) (tgt := 37) X.2.2.1 X.2.2.2.1 dX4_bestSize_30 rfl k1 k2) (fun c => ?_) (fun c => ?_)
    · have hf := ite_t c hf
      refine a_iload_n (pc := 37) X dX4_bestSize_37 rfl hl 1 rfl ?_
      exact w_X4_bestSize_j38 GA Z (some a19) v2 v1 rc9 hrc9 (hl.sub [0, 2] rfl) hf
    · have hf := ite_f c hf
      refine a_iload_n (pc := 33) X dX4_bestSize_33 rfl hl 2 rfl ?_
      refine AW.lift (fun _ _ _ _ k => lv_goto (pc := 34) (tgt := 38) X.2.2.1 X.2.2.2.1 dX4_bestSize_34 rfl k) ?_
      exact w_X4_bestSize_j38 GA Z (some a19) v2 v2 rc9 hrc9 (hl.sub [0, 2] rfl) hf
theorem w_X4_bestSize_l9 {r : Except Nat (Int32) × AH} (GA : GA l s0 a0 K lam) (Z : WZ l s0 a0 K p s m c cX4_bestSize yX4_bestSize.cls 3 b R 1 22 meth [] (some (.int)) yX4_bestSize) (v0 : Option Nat)  : ∀ (n : Nat) (v1 : Int32) (v2 : Int32) (h : AH) (ls : Array Slot), LV ls 3 [(0, vR v0), (1, vI v1), (2, vI v2)] → f_X4_bestSize_l9 K v0 n v1 v2 h = some r → AW s0 K lam p l e R s m args below meth c (AQ s0 K lam below oI b r s) b h (F0 m 9 ls []) := by
  intro n
  induction n with
  | zero => intro v1 v2 h ls hl hf; exact fl_no (h := h) hf
  | succ n ih => intro v1 v2 h ls hl hf; exact w_X4_bestSize_b9 GA Z v0 v1 v2 (f_X4_bestSize_l9 K v0 n) ih hl hf
theorem np_X4_bestSize : npar yX4_bestSize.desc 0 := by unfold npar; decide +kernel
theorem hy_X4_bestSize : yX4_bestSize.cls ≠ "java/lang/invoke/MethodHandle" ∧ yX4_bestSize.cls ≠ "java/lang/invoke/VarHandle" := by decide +kernel
theorem w_X4_bestSize (GA : GA l s0 a0 K lam) (v0 : Option Nat) : AMet l s0 K lam yX4_bestSize (Cond.code yX4_bestSize cX4_bestSize (3 : Nat) (Option.some ClassFile.FieldType.int)) 1 22 [vR v0] oI (f_X4_bestSize K v0) := by
  refine AMet.of GA.1 (plainFor_of_name (by decide +kernel)) (Nat.le_of_ble_eq_true rfl) ?_
  intro b r hf p e s m args below meth c X hr hlk hnm hnd ht ls hl
  have Z : WZ l s0 a0 K p s m c cX4_bestSize yX4_bestSize.cls 3 b { frames := 1, cells := K 0 - aX b, slots := K 1 - aW b, locals := 22 } 1 22 meth [] (some (.int)) yX4_bestSize := ⟨⟨X, GA.2.1, GA.2.2.1, rfl, rfl, Nat.le_refl _, Nat.le_refl _⟩, tab_nil ht, hr, hlk, hnm, hnd⟩
  unfold f_X4_bestSize at hf
  clear hr hlk hnm hnd ht
  refine a_aload_n (pc := 0) X dX4_bestSize_0 rfl hl 0 rfl ?_
  refine AW.lift (fun _ _ _ _ k => lv_iconst (pc := 1) (v := (0 : Int32)) X.2.2.1 X.2.2.2.1 dX4_bestSize_1 rfl k) ?_
  refine a_put (pc := 2) (φ := 107) X Z.1.2.1 Z.1.2.2.1 (gw X.1 X.2.1 q3032) (fun _ q => q) (by decide) rfl rfl dX4_bestSize_2 hf (fun h hf => ?_)
  refine AW.lift (fun _ _ _ _ k => lv_iconst (pc := 5) (v := (0 : Int32)) X.2.2.1 X.2.2.2.1 dX4_bestSize_5 rfl k) ?_
  refine a_istore_n (pc := 6) X dX4_bestSize_6 rfl hl (by decide) (lv' := [(1, vI (0 : Int32)), (0, vR v0)]) rfl (fun ls hl => ?_)
  refine AW.lift (fun _ _ _ _ k => lv_iconst (pc := 7) (v := (1 : Int32)) X.2.2.1 X.2.2.2.1 dX4_bestSize_7 rfl k) ?_
  refine a_istore_n (pc := 8) X dX4_bestSize_8 rfl hl (by decide) (lv' := [(2, vI (1 : Int32)), (1, vI (0 : Int32)), (0, vR v0)]) rfl (fun ls hl => ?_)
  exact w_X4_bestSize_l9 GA Z v0  FU (0 : Int32) (1 : Int32) _ _ (hl.sub [2, 1, 0] rfl) hf
end WK
