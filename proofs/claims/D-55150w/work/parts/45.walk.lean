section WK
variable {l : Launch} {s0 : State} {a0 : Array Value} {K : Nat → Nat} {lam : Nat → ClassId}
variable {p : Program} {e : Env} {R : Room} {s : State} {m : MethodId} {args : Array Value} {below : List Frame} {meth : Method} {c : Code} {b : AH}
theorem w_J5_setLength_j76 {r : Except Nat (Unit) × AH} (GA : GA l s0 a0 K lam) (Z : WZ l s0 a0 K p s m c cJ5_setLength yJ5_setLength.cls 2 b R 6 129 meth [] none yJ5_setLength) (v0 : Option Nat) (v1 : Int32)   {h : AH} {ls : Array Slot} (hl : LV ls 2 [(0, vR v0), (1, vI v1)]) (hf : f_J5_setLength_j76 K v0 v1 h = some r) : AW s0 K lam p l e R s m args below meth c (AQ s0 K lam below oV b r s) b h (F0 m 76 ls []) := by
  unfold f_J5_setLength_j76 at hf
  have X := Z.1.1
  refine a_aload_n (pc := 76) X dJ5_setLength_76 rfl hl 0 rfl ?_
  refine a_iload_n (pc := 77) X dJ5_setLength_77 rfl hl 1 rfl ?_
  refine a_put (pc := 78) (φ := 3503) X Z.1.2.1 Z.1.2.2.1 (gw X.1 X.2.1 q297) (fun _ q => q) (by decide) rfl rfl dJ5_setLength_78 hf (fun h hf => ?_)
  exact a_return X Z.2.2.1 Z.2.2.2.1 dJ5_setLength_81 hf
theorem np_J5_setLength : npar yJ5_setLength.desc 1 := by unfold npar; decide +kernel
theorem hy_J5_setLength : yJ5_setLength.cls ≠ "java/lang/invoke/MethodHandle" ∧ yJ5_setLength.cls ≠ "java/lang/invoke/VarHandle" := by decide +kernel
theorem w_J5_setLength (GA : GA l s0 a0 K lam) (v0 : Option Nat) (v1 : Int32) : AMet l s0 K lam yJ5_setLength (Cond.code yJ5_setLength cJ5_setLength (2 : Nat) (Option.none : Option ClassFile.FieldType)) 6 129 [vR v0, vI v1] oV (f_J5_setLength K v0 v1) := by
  refine AMet.of GA.1 (plainFor_of_name (by decide +kernel)) (Nat.le_of_ble_eq_true rfl) ?_
  intro b r hf p e s m args below meth c X hr hlk hnm hnd ht ls hl
  have Z : WZ l s0 a0 K p s m c cJ5_setLength yJ5_setLength.cls 2 b { frames := 6, cells := K 0 - aX b, slots := K 1 - aW b, locals := 129 } 6 129 meth [] none yJ5_setLength := ⟨⟨X, GA.2.1, GA.2.2.1, rfl, rfl, Nat.le_refl _, Nat.le_refl _⟩, tab_nil ht, hr, hlk, hnm, hnd⟩
  unfold f_J5_setLength at hf
  clear hr hlk hnm hnd ht
  refine a_iload_n (pc := 0) X dJ5_setLength_0 rfl hl 1 rfl ?_
  refine AW.lift2 (fun _ _ _ _ k1 k2 => lv_if_ge (pc := 1) (tgt := 13) X.2.2.1 X.2.2.2.1 dJ5_setLength_1 rfl k1 k2) (fun c => ?_) (fun c => ?_)
  · have hf := ite_t c hf
    refine a_aload_n (pc := 13) X dJ5_setLength_13 rfl hl 0 rfl ?_
    refine a_iload_n (pc := 14) X dJ5_setLength_14 rfl hl 1 rfl ?_
    obtain ⟨a15, rfl, ⟨hk, hf⟩ | ⟨-, hf⟩⟩ := dv_some hf
    rotate_left
    · exact fl_none hf
    refine a_callb (pc := 15) (rs := []) (avs := [vR (some a15), vI v1]) Z.1 (w_J5_ensureCapacityInternal GA (some a15) v1) (Or.inl rfl) q556 q82 (by decide) (by decide) dJ5_setLength_15 hl.1 (Nat.le_of_ble_eq_true rfl) hf (ct_Vp hk ⟨by decide, by decide⟩ X (Or.inl rfl) q556 q553 q555 q554 q591 rfl hy_J5_ensureCapacityInternal np_J5_ensureCapacityInternal rfl dJ5_setLength_15) (fun q h he hX => a_out (unc_of Z.2.1 rfl) Z.2.2.2.1 he hX) (fun _ h hf => ?kk15)
    refine AW.eq (g2 := F0 m 18 ls []) rfl ?_
    refine a_aload_n (pc := 18) X dJ5_setLength_18 rfl hl 0 rfl ?_
    refine a_get (pc := 19) (φ := 3503) pI_t X Z.1.2.1 (gw X.1 X.2.1 q297) (fun _ q => q) (by decide) dJ5_setLength_19 hf (fun x19 hf => ?_)
    refine a_iload_n (pc := 22) X dJ5_setLength_22 rfl hl 1 rfl ?_
    refine AW.lift2 (fun _ _ _ _ k1 k2 => lv_icmp_ge (pc := 23) (tgt := 63) X.2.2.1 X.2.2.2.1 dJ5_setLength_23 rfl k1 k2) (fun c => ?_) (fun c => ?_)
    · have hf := ite_t c hf
      refine a_aload_n (pc := 63) X dJ5_setLength_63 rfl hl 0 rfl ?_
      refine a_get (pc := 64) (φ := 3503) pI_t X Z.1.2.1 (gw X.1 X.2.1 q297) (fun _ q => q) (by decide) dJ5_setLength_64 hf (fun x64 hf => ?_)
      refine a_iload_n (pc := 67) X dJ5_setLength_67 rfl hl 1 rfl ?_
      refine AW.lift2 (fun _ _ _ _ k1 k2 => lv_icmp_le (pc := 68) (tgt := 76) X.2.2.1 X.2.2.2.1 dJ5_setLength_68 rfl k1 k2) (fun c => ?_) (fun c => ?_)
      · have hf := ite_t c hf
        exact w_J5_setLength_j76 GA Z (some a15) v1   (hl.sub [0, 1] rfl) hf
      · have hf := ite_f c hf
        refine a_aload_n (pc := 71) X dJ5_setLength_71 rfl hl 0 rfl ?_
        refine AW.lift (fun _ _ _ _ k => lv_iconst (pc := 72) (v := (1 : Int32)) X.2.2.1 X.2.2.2.1 dJ5_setLength_72 rfl k) ?_
        refine a_put (pc := 73) (φ := 3502) X Z.1.2.1 Z.1.2.2.1 (gw X.1 X.2.1 q295) (fun _ q => q) (by decide) rfl rfl dJ5_setLength_73 hf (fun h hf => ?_)
        exact w_J5_setLength_j76 GA Z (some a15) v1   (hl.sub [0, 1] rfl) hf
    · have hf := ite_f c hf
      refine a_aload_n (pc := 26) X dJ5_setLength_26 rfl hl 0 rfl ?_
      rcases dv_someS hf with ⟨hk, hf⟩ | ⟨-, hf⟩
      rotate_left
      · exact fl_none hf
      refine a_callb (pc := 27) (rs := []) (avs := [vR (some a15)]) Z.1 (w_J5_isLatin1 GA (some a15)) (Or.inl rfl) q592 q82 (by decide) (by decide) dJ5_setLength_27 hl.1 (Nat.le_of_ble_eq_true rfl) hf (ct_V hk ⟨by decide, by decide⟩ X (Or.inl rfl) q592 q588 q589 q591 hy_J5_isLatin1 np_J5_isLatin1 rfl dJ5_setLength_27) (fun q h he hX => a_out (unc_of Z.2.1 rfl) Z.2.2.2.1 he hX) (fun x27 h hf => ?kk27)
      refine AW.eq (g2 := F0 m 30 ls [.int x27]) rfl ?_
      refine AW.lift2 (fun _ _ _ _ k1 k2 => lv_if_eq (pc := 30) (tgt := 48) X.2.2.1 X.2.2.2.1 dJ5_setLength_30 rfl k1 k2) (fun c => ?_) (fun c => ?_)
      · have hf := ite_t c hf
        refine a_aload_n (pc := 48) X dJ5_setLength_48 rfl hl 0 rfl ?_
        refine a_get (pc := 49) (φ := 3500) pR_t X Z.1.2.1 (gw X.1 X.2.1 q293) (fun _ q => q) (by decide) dJ5_setLength_49 hf (fun x49 hf => ?_)
        refine a_aload_n (pc := 52) X dJ5_setLength_52 rfl hl 0 rfl ?_
        refine a_get (pc := 53) (φ := 3503) pI_t X Z.1.2.1 (gw X.1 X.2.1 q297) (fun _ q => q) (by decide) dJ5_setLength_53 hf (fun x53 hf => ?_)
        refine a_iload_n (pc := 56) X dJ5_setLength_56 rfl hl 1 rfl ?_
        exact fl_no hf
      · have hf := ite_f c hf
        refine a_aload_n (pc := 33) X dJ5_setLength_33 rfl hl 0 rfl ?_
        refine a_get (pc := 34) (φ := 3500) pR_t X Z.1.2.1 (gw X.1 X.2.1 q293) (fun _ q => q) (by decide) dJ5_setLength_34 hf (fun x34 hf => ?_)
        refine a_aload_n (pc := 37) X dJ5_setLength_37 rfl hl 0 rfl ?_
        refine a_get (pc := 38) (φ := 3503) pI_t X Z.1.2.1 (gw X.1 X.2.1 q297) (fun _ q => q) (by decide) dJ5_setLength_38 hf (fun x38 hf => ?_)
        refine a_iload_n (pc := 41) X dJ5_setLength_41 rfl hl 1 rfl ?_
        refine a_callb (pc := 42) (rs := []) (avs := [vR x34, vI x38, vI v1]) Z.1 (w_J21_fillNull GA x34 x38 v1) (Or.inl rfl) q2513 q103 (by decide) (by decide) dJ5_setLength_42 hl.1 (Nat.le_of_ble_eq_true rfl) hf (ct_S X (Or.inl rfl) q2513 q103 q2511 q2512 hy_J21_fillNull np_J21_fillNull rfl dJ5_setLength_42) (fun q h he hX => a_out (unc_of Z.2.1 rfl) Z.2.2.2.1 he hX) (fun _ h hf => ?kk42)
        refine AW.eq (g2 := F0 m 45 ls []) rfl ?_
        refine AW.lift (fun _ _ _ _ k => lv_goto (pc := 45) (tgt := 76) X.2.2.1 X.2.2.2.1 dJ5_setLength_45 rfl k) ?_
        exact w_J5_setLength_j76 GA Z (some a15) v1   (hl.sub [0, 1] rfl) hf
  · have hf := ite_f c hf
    refine a_new (pc := 4) (cK := 23) (n := 6) X Z.1.2.1 Z.1.2.2.1 Z.1.2.2.2.1 Z.1.2.2.2.2.1 ⟨by decide, by decide, by decide⟩ (gw X.1 X.2.1 q2492) (gw X.1 X.2.1 q2493) (gw X.1 X.2.1 q127) dJ5_setLength_4 hf (fun x4 h hf => ?_)
    refine AW.lift (fun _ _ _ _ k => lv_dup (pc := 7) X.2.2.1 X.2.2.2.1 dJ5_setLength_7 (cat_rf _) k) ?_
    refine a_iload_n (pc := 8) X dJ5_setLength_8 rfl hl 1 rfl ?_
    exact fl_no hf
theorem np_J6_setLength : npar yJ6_setLength.desc 1 := by unfold npar; decide +kernel
theorem hy_J6_setLength : yJ6_setLength.cls ≠ "java/lang/invoke/MethodHandle" ∧ yJ6_setLength.cls ≠ "java/lang/invoke/VarHandle" := by decide +kernel
theorem w_J6_setLength (GA : GA l s0 a0 K lam) (v0 : Option Nat) (v1 : Int32) : AMet l s0 K lam yJ6_setLength (Cond.code yJ6_setLength cJ6_setLength (2 : Nat) (Option.none : Option ClassFile.FieldType)) 7 150 [vR v0, vI v1] oV (f_J6_setLength K v0 v1) := by
  refine AMet.of GA.1 (plainFor_of_name (by decide +kernel)) (Nat.le_of_ble_eq_true rfl) ?_
  intro b r hf p e s m args below meth c X hr hlk hnm hnd ht ls hl
  have Z : WZ l s0 a0 K p s m c cJ6_setLength yJ6_setLength.cls 2 b { frames := 7, cells := K 0 - aX b, slots := K 1 - aW b, locals := 150 } 7 150 meth [] none yJ6_setLength := ⟨⟨X, GA.2.1, GA.2.2.1, rfl, rfl, Nat.le_refl _, Nat.le_refl _⟩, tab_nil ht, hr, hlk, hnm, hnd⟩
  unfold f_J6_setLength at hf
  clear hr hlk hnm hnd ht
  refine a_aload_n (pc := 0) X dJ6_setLength_0 rfl hl 0 rfl ?_
  refine a_iload_n (pc := 1) X dJ6_setLength_1 rfl hl 1 rfl ?_
  obtain ⟨a2, rfl, ⟨hk, hf⟩ | ⟨-, hf⟩⟩ := dv_some hf
  rotate_left
  · exact fl_none hf
  refine a_callb (pc := 2) (rs := []) (avs := [vR (some a2), vI v1]) Z.1 (w_J5_setLength GA (some a2) v1) (Or.inl rfl) q2491 q82 (by decide) (by decide) dJ6_setLength_2 hl.1 (Nat.le_of_ble_eq_true rfl) hf (ct_P hk ⟨by decide, by decide⟩ X (Or.inl rfl) q2491 q2489 q3489 q2490 q306 (by decide) np_J5_setLength rfl dJ6_setLength_2) (fun q h he hX => a_out (unc_of Z.2.1 rfl) Z.2.2.2.1 he hX) (fun _ h hf => ?kk2)
  refine AW.eq (g2 := F0 m 5 ls []) rfl ?_
  exact a_return X Z.2.2.1 Z.2.2.2.1 dJ6_setLength_5 hf
theorem np_J21_canEncode : npar yJ21_canEncode.desc 1 := by unfold npar; decide +kernel
theorem hy_J21_canEncode : yJ21_canEncode.cls ≠ "java/lang/invoke/MethodHandle" ∧ yJ21_canEncode.cls ≠ "java/lang/invoke/VarHandle" := by decide +kernel
theorem w_J21_canEncode (GA : GA l s0 a0 K lam) (v0 : Int32) : AMet l s0 K lam yJ21_canEncode (Cond.code yJ21_canEncode cJ21_canEncode (1 : Nat) (Option.some ClassFile.FieldType.boolean)) 0 0 [vI v0] oI (f_J21_canEncode K v0) := by
  refine AMet.of GA.1 (plainFor_of_name (by decide +kernel)) (Nat.le_of_ble_eq_true rfl) ?_
  intro b r hf p e s m args below meth c X hr hlk hnm hnd ht ls hl
  have Z : WZ l s0 a0 K p s m c cJ21_canEncode yJ21_canEncode.cls 1 b { frames := 0, cells := K 0 - aX b, slots := K 1 - aW b, locals := 0 } 0 0 meth [] (some (.boolean)) yJ21_canEncode := ⟨⟨X, GA.2.1, GA.2.2.1, rfl, rfl, Nat.le_refl _, Nat.le_refl _⟩, tab_nil ht, hr, hlk, hnm, hnd⟩
  unfold f_J21_canEncode at hf
  clear hr hlk hnm hnd ht
  refine a_iload_n (pc := 0) X dJ21_canEncode_0 rfl hl 0 rfl ?_
  refine AW.lift (fun _ _ _ _ k => lv_sipush (pc := 1) (v := (255 : Int32)) X.2.2.1 X.2.2.2.1 dJ21_canEncode_1 rfl k) ?_
  refine AW.lift2 (fun _ _ _ _ k1 k2 => lv_icmp_gt (pc := 4) (tgt := 11) X.2.2.1 X.2.2.2.1 dJ21_canEncode_4 rfl k1 k2) (fun c => ?_) (fun c => ?_)
  · have hf := ite_t c hf
    refine AW.lift (fun _ _ _ _ k => lv_iconst (pc := 11) (v := (0 : Int32)) X.2.2.1 X.2.2.2.1 dJ21_canEncode_11 rfl k) ?_
    exact a_zreturn X Z.2.2.1 rfl Z.2.2.2.1 dJ21_canEncode_12 hf
  · have hf := ite_f c hf
    refine AW.lift (fun _ _ _ _ k => lv_iconst (pc := 7) (v := (1 : Int32)) X.2.2.1 X.2.2.2.1 dJ21_canEncode_7 rfl k) ?_
    refine AW.lift (fun _ _ _ _ k => lv_goto (pc := 8) (tgt := 12) X.2.2.1 X.2.2.2.1 dJ21_canEncode_8 rfl k) ?_
    exact a_zreturn X Z.2.2.1 rfl Z.2.2.2.1 dJ21_canEncode_12 hf
theorem w_J5_append_3_j56 {r : Except Nat (Option Nat) × AH} (GA : GA l s0 a0 K lam) (Z : WZ l s0 a0 K p s m c cJ5_append_3 yJ5_append_3.cls 2 b R 4 99 meth [] (some (.object "java/lang/AbstractStringBuilder")) yJ5_append_3) (v0 : Option Nat) (v1 : Int32)   {h : AH} {ls : Array Slot} (hl : LV ls 2 [(0, vR v0), (1, vI v1)]) (hf : f_J5_append_3_j56 K v0 v1 h = some r) : AW s0 K lam p l e R s m args below meth c (AQ s0 K lam below oR b r s) b h (F0 m 56 ls []) := by
  unfold f_J5_append_3_j56 at hf
  have X := Z.1.1
  refine a_aload_n (pc := 56) X dJ5_append_3_56 rfl hl 0 rfl ?_
  refine a_get (pc := 57) (φ := 3500) pR_t X Z.1.2.1 (gw X.1 X.2.1 q293) (fun _ q => q) (by decide) dJ5_append_3_57 hf (fun x57 hf => ?_)
  refine a_aload_n (pc := 60) X dJ5_append_3_60 rfl hl 0 rfl ?_
  refine AW.lift (fun _ _ _ _ k => lv_dup (pc := 61) X.2.2.1 X.2.2.2.1 dJ5_append_3_61 (cat_rf _) k) ?_
  refine a_get (pc := 62) (φ := 3503) pI_t X Z.1.2.1 (gw X.1 X.2.1 q297) (fun _ q => q) (by decide) dJ5_append_3_62 hf (fun x62 hf => ?_)
  refine AW.lift (fun _ _ _ _ k => lv_dup_x1 (pc := 65) X.2.2.1 X.2.2.2.1 dJ5_append_3_65 rfl (cat_rf _) k) ?_
  refine AW.lift (fun _ _ _ _ k => lv_iconst (pc := 66) (v := (1 : Int32)) X.2.2.1 X.2.2.2.1 dJ5_append_3_66 rfl k) ?_
  refine AW.lift (fun _ _ _ _ k => lv_iadd (pc := 67) X.2.2.1 X.2.2.2.1 dJ5_append_3_67 k) ?_
  refine a_put (pc := 68) (φ := 3503) X Z.1.2.1 Z.1.2.2.1 (gw X.1 X.2.1 q297) (fun _ q => q) (by decide) rfl rfl dJ5_append_3_68 hf (fun h hf => ?_)
  refine a_iload_n (pc := 71) X dJ5_append_3_71 rfl hl 1 rfl ?_
  exact fl_no hf
theorem w_J5_append_3_j45 {r : Except Nat (Option Nat) × AH} (GA : GA l s0 a0 K lam) (Z : WZ l s0 a0 K p s m c cJ5_append_3 yJ5_append_3.cls 2 b R 4 99 meth [] (some (.object "java/lang/AbstractStringBuilder")) yJ5_append_3) (v0 : Option Nat) (v1 : Int32)   {h : AH} {ls : Array Slot} (hl : LV ls 2 [(0, vR v0), (1, vI v1)]) (hf : f_J5_append_3_j45 K v0 v1 h = some r) : AW s0 K lam p l e R s m args below meth c (AQ s0 K lam below oR b r s) b h (F0 m 45 ls []) := by
  unfold f_J5_append_3_j45 at hf
  have X := Z.1.1
  refine a_aload_n (pc := 45) X dJ5_append_3_45 rfl hl 0 rfl ?_
  obtain ⟨a46, rfl, ⟨hk, hf⟩ | ⟨-, hf⟩⟩ := dv_some hf
  rotate_left
  · exact fl_none hf
  refine a_callb (pc := 46) (rs := []) (avs := [vR (some a46)]) Z.1 (w_J5_isLatin1 GA (some a46)) (Or.inl rfl) q592 q82 (by decide) (by decide) dJ5_append_3_46 hl.1 (Nat.le_of_ble_eq_true rfl) hf (ct_V hk ⟨by decide, by decide⟩ X (Or.inl rfl) q592 q588 q589 q591 hy_J5_isLatin1 np_J5_isLatin1 rfl dJ5_append_3_46) (fun q h he hX => a_out (unc_of Z.2.1 rfl) Z.2.2.2.1 he hX) (fun x46 h hf => ?kk46)
  refine AW.eq (g2 := F0 m 49 ls [.int x46]) rfl ?_
  refine AW.lift2 (fun _ _ _ _ k1 k2 => lv_if_eq (pc := 49) (tgt := 56) X.2.2.1 X.2.2.2.1 dJ5_append_3_49 rfl k1 k2) (fun c => ?_) (fun c => ?_)
  · have hf := ite_t c hf
    exact w_J5_append_3_j56 GA Z (some a46) v1   (hl.sub [0, 1] rfl) hf
  · have hf := ite_f c hf
    refine a_aload_n (pc := 52) X dJ5_append_3_52 rfl hl 0 rfl ?_
    exact fl_no hf
theorem np_J5_append_3 : npar yJ5_append_3.desc 1 := by unfold npar; decide +kernel
theorem hy_J5_append_3 : yJ5_append_3.cls ≠ "java/lang/invoke/MethodHandle" ∧ yJ5_append_3.cls ≠ "java/lang/invoke/VarHandle" := by decide +kernel
theorem w_J5_append_3 (GA : GA l s0 a0 K lam) (v0 : Option Nat) (v1 : Int32) : AMet l s0 K lam yJ5_append_3 (Cond.code yJ5_append_3 cJ5_append_3 (2 : Nat) (Option.some (ClassFile.FieldType.object "java/lang/AbstractStringBuilder"))) 4 99 [vR v0, vI v1] oR (f_J5_append_3 K v0 v1) := by
  refine AMet.of GA.1 (plainFor_of_name (by decide +kernel)) (Nat.le_of_ble_eq_true rfl) ?_
  intro b r hf p e s m args below meth c X hr hlk hnm hnd ht ls hl
  have Z : WZ l s0 a0 K p s m c cJ5_append_3 yJ5_append_3.cls 2 b { frames := 4, cells := K 0 - aX b, slots := K 1 - aW b, locals := 99 } 4 99 meth [] (some (.object "java/lang/AbstractStringBuilder")) yJ5_append_3 := ⟨⟨X, GA.2.1, GA.2.2.1, rfl, rfl, Nat.le_refl _, Nat.le_refl _⟩, tab_nil ht, hr, hlk, hnm, hnd⟩
  unfold f_J5_append_3 at hf
  clear hr hlk hnm hnd ht
  refine a_aload_n (pc := 0) X dJ5_append_3_0 rfl hl 0 rfl ?_
  refine a_aload_n (pc := 1) X dJ5_append_3_1 rfl hl 0 rfl ?_
  refine a_get (pc := 2) (φ := 3503) pI_t X Z.1.2.1 (gw X.1 X.2.1 q297) (fun _ q => q) (by decide) dJ5_append_3_2 hf (fun x2 hf => ?_)
  refine AW.lift (fun _ _ _ _ k => lv_iconst (pc := 5) (v := (1 : Int32)) X.2.2.1 X.2.2.2.1 dJ5_append_3_5 rfl k) ?_
  refine AW.lift (fun _ _ _ _ k => lv_iadd (pc := 6) X.2.2.1 X.2.2.2.1 dJ5_append_3_6 k) ?_
  obtain ⟨a7, rfl, ⟨hk, hf⟩ | ⟨-, hf⟩⟩ := dv_some hf
  rotate_left
  · exact fl_none hf
  refine a_callb (pc := 7) (rs := []) (avs := [vR (some a7), vI (x2 + (1 : Int32))]) Z.1 (w_J5_ensureCapacityInternal GA (some a7) (x2 + (1 : Int32))) (Or.inl rfl) q556 q82 (by decide) (by decide) dJ5_append_3_7 hl.1 (Nat.le_of_ble_eq_true rfl) hf (ct_Vp hk ⟨by decide, by decide⟩ X (Or.inl rfl) q556 q553 q555 q554 q591 rfl hy_J5_ensureCapacityInternal np_J5_ensureCapacityInternal rfl dJ5_append_3_7) (fun q h he hX => a_out (unc_of Z.2.1 rfl) Z.2.2.2.1 he hX) (fun _ h hf => ?kk7)
  refine AW.eq (g2 := F0 m 10 ls []) rfl ?_
  refine a_aload_n (pc := 10) X dJ5_append_3_10 rfl hl 0 rfl ?_
  rcases dv_someS hf with ⟨hk, hf⟩ | ⟨-, hf⟩
  rotate_left
  · exact fl_none hf
  refine a_callb (pc := 11) (rs := []) (avs := [vR (some a7)]) Z.1 (w_J5_isLatin1 GA (some a7)) (Or.inl rfl) q592 q82 (by decide) (by decide) dJ5_append_3_11 hl.1 (Nat.le_of_ble_eq_true rfl) hf (ct_V hk ⟨by decide, by decide⟩ X (Or.inl rfl) q592 q588 q589 q591 hy_J5_isLatin1 np_J5_isLatin1 rfl dJ5_append_3_11) (fun q h he hX => a_out (unc_of Z.2.1 rfl) Z.2.2.2.1 he hX) (fun x11 h hf => ?kk11)
  refine AW.eq (g2 := F0 m 14 ls [.int x11]) rfl ?_
  refine AW.lift2 (fun _ _ _ _ k1 k2 => lv_if_eq (pc := 14) (tgt := 45) X.2.2.1 X.2.2.2.1 dJ5_append_3_14 rfl k1 k2) (fun c => ?_) (fun c => ?_)
  · have hf := ite_t c hf
    exact w_J5_append_3_j45 GA Z (some a7) v1   (hl.sub [0, 1] rfl) hf
  · have hf := ite_f c hf
    refine a_iload_n (pc := 17) X dJ5_append_3_17 rfl hl 1 rfl ?_
    refine a_callb (pc := 18) (rs := []) (avs := [vI v1]) Z.1 (w_J21_canEncode GA v1) (Or.inl rfl) q2547 q103 (by decide) (by decide) dJ5_append_3_18 hl.1 (Nat.le_of_ble_eq_true rfl) hf (ct_S X (Or.inl rfl) q2547 q103 q2545 q2546 hy_J21_canEncode np_J21_canEncode rfl dJ5_append_3_18) (fun q h he hX => a_out (unc_of Z.2.1 rfl) Z.2.2.2.1 he hX) (fun x18 h hf => ?kk18)
    refine AW.eq (g2 := F0 m 21 ls [.int x18]) rfl ?_
    refine AW.lift2 (fun _ _ _ _ k1 k2 => lv_if_eq (pc := 21) (tgt := 45) X.2.2.1 X.2.2.2.1 dJ5_append_3_21 rfl k1 k2) (fun c => ?_) (fun c => ?_)
    · have hf := ite_t c hf
      exact w_J5_append_3_j45 GA Z (some a7) v1   (hl.sub [0, 1] rfl) hf
    · have hf := ite_f c hf
      refine a_aload_n (pc := 24) X dJ5_append_3_24 rfl hl 0 rfl ?_
      refine a_get (pc := 25) (φ := 3500) pR_t X Z.1.2.1 (gw X.1 X.2.1 q293) (fun _ q => q) (by decide) dJ5_append_3_25 hf (fun x25 hf => ?_)
      refine a_aload_n (pc := 28) X dJ5_append_3_28 rfl hl 0 rfl ?_
      refine AW.lift (fun _ _ _ _ k => lv_dup (pc := 29) X.2.2.1 X.2.2.2.1 dJ5_append_3_29 (cat_rf _) k) ?_
      refine a_get (pc := 30) (φ := 3503) pI_t X Z.1.2.1 (gw X.1 X.2.1 q297) (fun _ q => q) (by decide) dJ5_append_3_30 hf (fun x30 hf => ?_)
      refine AW.lift (fun _ _ _ _ k => lv_dup_x1 (pc := 33) X.2.2.1 X.2.2.2.1 dJ5_append_3_33 rfl (cat_rf _) k) ?_
      refine AW.lift (fun _ _ _ _ k => lv_iconst (pc := 34) (v := (1 : Int32)) X.2.2.1 X.2.2.2.1 dJ5_append_3_34 rfl k) ?_
      refine AW.lift (fun _ _ _ _ k => lv_iadd (pc := 35) X.2.2.1 X.2.2.2.1 dJ5_append_3_35 k) ?_
      refine a_put (pc := 36) (φ := 3503) X Z.1.2.1 Z.1.2.2.1 (gw X.1 X.2.1 q297) (fun _ q => q) (by decide) rfl rfl dJ5_append_3_36 hf (fun h hf => ?_)
      refine a_iload_n (pc := 39) X dJ5_append_3_39 rfl hl 1 rfl ?_
      refine AW.lift (fun _ _ _ _ k => lv_i2b (pc := 40) X.2.2.1 X.2.2.2.1 dJ5_append_3_40 rfl k) ?_
      obtain ⟨hg, hf⟩ := chk_some hf
      refine a_bastore (pc := 41) X hg dJ5_append_3_41 hf (fun h hf => ?_)
      refine AW.lift (fun _ _ _ _ k => lv_goto (pc := 42) (tgt := 75) X.2.2.1 X.2.2.2.1 dJ5_append_3_42 rfl k) ?_
      refine a_aload_n (pc := 75) X dJ5_append_3_75 rfl hl 0 rfl ?_
      exact a_areturn X Z.2.2.1 (Or.inl ⟨_, rfl⟩) Z.2.2.2.1 dJ5_append_3_76 hf
theorem np_J6_append_3 : npar yJ6_append_3.desc 1 := by unfold npar; decide +kernel
theorem hy_J6_append_3 : yJ6_append_3.cls ≠ "java/lang/invoke/MethodHandle" ∧ yJ6_append_3.cls ≠ "java/lang/invoke/VarHandle" := by decide +kernel
theorem w_J6_append_3 (GA : GA l s0 a0 K lam) (v0 : Option Nat) (v1 : Int32) : AMet l s0 K lam yJ6_append_3 (Cond.code yJ6_append_3 cJ6_append_3 (2 : Nat) (Option.some (ClassFile.FieldType.object "java/lang/StringBuilder"))) 5 120 [vR v0, vI v1] oR (f_J6_append_3 K v0 v1) := by
  refine AMet.of GA.1 (plainFor_of_name (by decide +kernel)) (Nat.le_of_ble_eq_true rfl) ?_
  intro b r hf p e s m args below meth c X hr hlk hnm hnd ht ls hl
  have Z : WZ l s0 a0 K p s m c cJ6_append_3 yJ6_append_3.cls 2 b { frames := 5, cells := K 0 - aX b, slots := K 1 - aW b, locals := 120 } 5 120 meth [] (some (.object "java/lang/StringBuilder")) yJ6_append_3 := ⟨⟨X, GA.2.1, GA.2.2.1, rfl, rfl, Nat.le_refl _, Nat.le_refl _⟩, tab_nil ht, hr, hlk, hnm, hnd⟩
  unfold f_J6_append_3 at hf
  clear hr hlk hnm hnd ht
  refine a_aload_n (pc := 0) X dJ6_append_3_0 rfl hl 0 rfl ?_
  refine a_iload_n (pc := 1) X dJ6_append_3_1 rfl hl 1 rfl ?_
  obtain ⟨a2, rfl, ⟨hk, hf⟩ | ⟨-, hf⟩⟩ := dv_some hf
  rotate_left
  · exact fl_none hf
  refine a_callb (pc := 2) (rs := []) (avs := [vR (some a2), vI v1]) Z.1 (w_J5_append_3 GA (some a2) v1) (Or.inl rfl) q2544 q82 (by decide) (by decide) dJ6_append_3_2 hl.1 (Nat.le_of_ble_eq_true rfl) hf (ct_P hk ⟨by decide, by decide⟩ X (Or.inl rfl) q2544 q2542 q3490 q2543 q306 (by decide) np_J5_append_3 rfl dJ6_append_3_2) (fun q h he hX => a_out (unc_of Z.2.1 rfl) Z.2.2.2.1 he hX) (fun x2 h hf => ?kk2)
  refine AW.eq (g2 := F0 m 5 ls [va_rf x2]) rfl ?_
  refine AW.lift (fun _ _ _ _ k => lv_pop (pc := 5) X.2.2.1 X.2.2.2.1 dJ6_append_3_5 (cat_rf _) k) ?_
  refine a_aload_n (pc := 6) X dJ6_append_3_6 rfl hl 0 rfl ?_
  exact a_areturn X Z.2.2.1 (Or.inl ⟨_, rfl⟩) Z.2.2.2.1 dJ6_append_3_7 hf
theorem w_J23_stringSize_j42 {r : Except Nat (Int32) × AH} (GA : GA l s0 a0 K lam) (Z : WZ l s0 a0 K p s m c cJ23_stringSize yJ23_stringSize.cls 4 b R 0 0 meth [] (some (.int)) yJ23_stringSize) (v1 : Int32)   {h : AH} {ls : Array Slot} (hl : LV ls 4 [(1, vI v1)]) (hf : f_J23_stringSize_j42 K v1 h = some r) : AW s0 K lam p l e R s m args below meth c (AQ s0 K lam below oI b r s) b h (F0 m 42 ls []) := by
  unfold f_J23_stringSize_j42 at hf
  have X := Z.1.1
  refine AW.lift (fun _ _ _ _ k => lv_bipush (pc := 42) (v := (10 : Int32)) X.2.2.1 X.2.2.2.1 dJ23_stringSize_42 rfl k) ?_
  refine a_iload_n (pc := 44) X dJ23_stringSize_44 rfl hl 0 rfl ?_
  refine AW.lift (fun _ _ _ _ k => lv_iadd (pc := 45) X.2.2.1 X.2.2.2.1 dJ23_stringSize_45 k) ?_
  exact a_ireturn X Z.2.2.1 Z.2.2.2.1 dJ23_stringSize_46 hf
theorem w_J23_stringSize_j27 {r : Except Nat (Int32) × AH} (GA : GA l s0 a0 K lam) (Z : WZ l s0 a0 K p s m c cJ23_stringSize yJ23_stringSize.cls 4 b R 0 0 meth [] (some (.int)) yJ23_stringSize) (v1 : Int32) (v3 : Int32)   {h : AH} {ls : Array Slot} (hl : LV ls 4 [(1, vI v1), (3, vI v3)]) (hf : f_J23_stringSize_j27 K v1 v3 h = some r) : AW s0 K lam p l e R s m args below meth c (AQ s0 K lam below oI b r s) b h (F0 m 27 ls []) := by
  unfold f_J23_stringSize_j27 at hf
  have X := Z.1.1
  refine a_iload_n (pc := 27) X dJ23_stringSize_27 rfl hl 1 rfl ?_
  refine a_iload_n (pc := 28) X dJ23_stringSize_28 rfl hl 0 rfl ?_
  refine AW.lift (fun _ _ _ _ k => lv_iadd (pc := 29) X.2.2.1 X.2.2.2.1 dJ23_stringSize_29 k) ?_
  exact a_ireturn X Z.2.2.1 Z.2.2.2.1 dJ23_stringSize_30 hf
theorem w_J23_stringSize_b16 {r : Except Nat (Int32) × AH} (GA : GA l s0 a0 K lam) (Z : WZ l s0 a0 K p s m c cJ23_stringSize yJ23_stringSize.cls 4 b R 0 0 meth [] (some (.int)) yJ23_stringSize) (v0 : Int32) (v1 : Int32) (v2 : Int32) (v3 : Int32)  (rc16 : Int32 → Int32 → AM (Int32)) (hrc16 : ∀ (v2 : Int32) (v3 : Int32) (h : AH) (ls : Array Slot), LV ls 4 [(0, vI v0), (1, vI v1), (2, vI v2), (3, vI v3)] → rc16 v2 v3 h = some r → AW s0 K lam p l e R s m args below meth c (AQ s0 K lam below oI b r s) b h (F0 m 16 ls [])) {h : AH} {ls : Array Slot} (hl : LV ls 4 [(0, vI v0), (1, vI v1), (2, vI v2), (3, vI v3)]) (hf : f_J23_stringSize_b16 K rc16 v0 v1 v2 v3 h = some r) : AW s0 K lam p l e R s m args below meth c (AQ s0 K lam below oI b r s) b h (F0 m 16 ls []) := by
  unfold f_J23_stringSize_b16 at hf
  have X := Z.1.1
  refine a_iload_n (pc := 16) X dJ23_stringSize_16 rfl hl 3 rfl ?_
  refine AW.lift (fun _ _ _ _ k => lv_bipush (pc := 17) (v := (10 : Int32)) X.2.2.1 X.2.2.2.1 dJ23_stringSize_17 rfl k) ?_
  refine AW.lift2 (fun _ _ _ _ k1 k2 => lv_icmp_ge (pc := 19) (tgt := 42) X.2.2.1 X.2.2.2.1 dJ23_stringSize_19 rfl k1 k2) (fun c => ?_) (fun c => ?_)
  · have hf := ite_t c hf
    exact w_J23_stringSize_j42 GA Z v1   (hl.sub [1] rfl) hf
  · have hf := ite_f c hf
    refine a_iload_n (pc := 22) X dJ23_stringSize_22 rfl hl 0 rfl ?_
    refine a_iload_n (pc := 23) X dJ23_stringSize_23 rfl hl 2 rfl ?_
    refine AW.lift2 (fun _ _ _ _ k1 k2 => lv_icmp_le (pc := 24) (tgt := 31) X.2.2.1 X.2.2.2.1 dJ23_stringSize_24 rfl k1 k2) (fun c => ?_) (fun c => ?_)
    · have hf := ite_t c hf
      refine AW.lift (fun _ _ _ _ k => lv_bipush (pc := 31) (v := (10 : Int32)) X.2.2.1 X.2.2.2.1 dJ23_stringSize_31 rfl k) ?_
      refine a_iload_n (pc := 33) X dJ23_stringSize_33 rfl hl 2 rfl ?_
      refine AW.lift (fun _ _ _ _ k => lv_imul (pc := 34) X.2.2.1 X.2.2.2.1 dJ23_stringSize_34 k) ?_
      refine a_istore_n (pc := 35) X dJ23_stringSize_35 rfl hl (by decide) (lv' := [(2, vI ((10 : Int32) * v2)), (0, vI v0), (1, vI v1), (3, vI v3)]) rfl (fun ls hl => ?_)
      refine a_iinc (pc := 36) (v := (v3 + (1 : Int32))) X dJ23_stringSize_36 hl (k := 3) rfl rfl (by decide) (lv' := [(3, vI (v3 + (1 : Int32))), (2, vI ((10 : Int32) * v2)), (0, vI v0), (1, vI v1)]) rfl (fun ls hl => ?_)
      refine AW.lift (fun _ _ _ _ k => lv_goto (pc := 39) (tgt := 16) X.2.2.1 X.2.2.2.1 dJ23_stringSize_39 rfl k) ?_
      exact hrc16 ((10 : Int32) * v2) (v3 + (1 : Int32)) _ _ (hl.sub [2, 3, 1, 0] rfl) hf
    · have hf := ite_f c hf
      exact w_J23_stringSize_j27 GA Z v1 v3   (hl.sub [1, 3] rfl) hf
theorem w_J23_stringSize_l16 {r : Except Nat (Int32) × AH} (GA : GA l s0 a0 K lam) (Z : WZ l s0 a0 K p s m c cJ23_stringSize yJ23_stringSize.cls 4 b R 0 0 meth [] (some (.int)) yJ23_stringSize) (v0 : Int32) (v1 : Int32)  : ∀ (n : Nat) (v2 : Int32) (v3 : Int32) (h : AH) (ls : Array Slot), LV ls 4 [(0, vI v0), (1, vI v1), (2, vI v2), (3, vI v3)] → f_J23_stringSize_l16 K v0 v1 n v2 v3 h = some r → AW s0 K lam p l e R s m args below meth c (AQ s0 K lam below oI b r s) b h (F0 m 16 ls []) := by
  intro n
  induction n with
  | zero => intro v2 v3 h ls hl hf; exact fl_no (h := h) hf
  | succ n ih => intro v2 v3 h ls hl hf; exact w_J23_stringSize_b16 GA Z v0 v1 v2 v3 (f_J23_stringSize_l16 K v0 v1 n) ih hl hf
theorem w_J23_stringSize_j11 {r : Except Nat (Int32) × AH} (GA : GA l s0 a0 K lam) (Z : WZ l s0 a0 K p s m c cJ23_stringSize yJ23_stringSize.cls 4 b R 0 0 meth [] (some (.int)) yJ23_stringSize) (v0 : Int32) (v1 : Int32)   {h : AH} {ls : Array Slot} (hl : LV ls 4 [(0, vI v0), (1, vI v1)]) (hf : f_J23_stringSize_j11 K v0 v1 h = some r) : AW s0 K lam p l e R s m args below meth c (AQ s0 K lam below oI b r s) b h (F0 m 11 ls []) := by
  unfold f_J23_stringSize_j11 at hf
  have X := Z.1.1
  refine AW.lift (fun _ _ _ _ k => lv_bipush (pc := 11) (v := (-10 : Int32)) X.2.2.1 X.2.2.2.1 dJ23_stringSize_11 rfl k) ?_
  refine a_istore_n (pc := 13) X dJ23_stringSize_13 rfl hl (by decide) (lv' := [(2, vI (-10 : Int32)), (0, vI v0), (1, vI v1)]) rfl (fun ls hl => ?_)
  refine AW.lift (fun _ _ _ _ k => lv_iconst (pc := 14) (v := (1 : Int32)) X.2.2.1 X.2.2.2.1 dJ23_stringSize_14 rfl k) ?_
  refine a_istore_n (pc := 15) X dJ23_stringSize_15 rfl hl (by decide) (lv' := [(3, vI (1 : Int32)), (2, vI (-10 : Int32)), (0, vI v0), (1, vI v1)]) rfl (fun ls hl => ?_)
  exact w_J23_stringSize_l16 GA Z v0 v1  FU (-10 : Int32) (1 : Int32) _ _ (hl.sub [2, 3, 1, 0] rfl) hf
theorem np_J23_stringSize : npar yJ23_stringSize.desc 1 := by unfold npar; decide +kernel
theorem hy_J23_stringSize : yJ23_stringSize.cls ≠ "java/lang/invoke/MethodHandle" ∧ yJ23_stringSize.cls ≠ "java/lang/invoke/VarHandle" := by decide +kernel
theorem w_J23_stringSize (GA : GA l s0 a0 K lam) (v0 : Int32) : AMet l s0 K lam yJ23_stringSize (Cond.code yJ23_stringSize cJ23_stringSize (4 : Nat) (Option.some ClassFile.FieldType.int)) 0 0 [vI v0] oI (f_J23_stringSize K v0) := by
  refine AMet.of GA.1 (plainFor_of_name (by decide +kernel)) (Nat.le_of_ble_eq_true rfl) ?_
  intro b r hf p e s m args below meth c X hr hlk hnm hnd ht ls hl
  have Z : WZ l s0 a0 K p s m c cJ23_stringSize yJ23_stringSize.cls 4 b { frames := 0, cells := K 0 - aX b, slots := K 1 - aW b, locals := 0 } 0 0 meth [] (some (.int)) yJ23_stringSize := ⟨⟨X, GA.2.1, GA.2.2.1, rfl, rfl, Nat.le_refl _, Nat.le_refl _⟩, tab_nil ht, hr, hlk, hnm, hnd⟩
  unfold f_J23_stringSize at hf
  clear hr hlk hnm hnd ht
  refine AW.lift (fun _ _ _ _ k => lv_iconst (pc := 0) (v := (1 : Int32)) X.2.2.1 X.2.2.2.1 dJ23_stringSize_0 rfl k) ?_
  refine a_istore_n (pc := 1) X dJ23_stringSize_1 rfl hl (by decide) (lv' := [(1, vI (1 : Int32)), (0, vI v0)]) rfl (fun ls hl => ?_)
  refine a_iload_n (pc := 2) X dJ23_stringSize_2 rfl hl 1 rfl ?_
  refine AW.lift2 (fun _ _ _ _ k1 k2 => lv_if_lt (pc := 3) (tgt := 11) X.2.2.1 X.2.2.2.1 dJ23_stringSize_3 rfl k1 k2) (fun c => ?_) (fun c => ?_)
  · have hf := ite_t c hf
    exact w_J23_stringSize_j11 GA Z v0 (1 : Int32)   (hl.sub [1, 0] rfl) hf
  · have hf := ite_f c hf
    refine AW.lift (fun _ _ _ _ k => lv_iconst (pc := 6) (v := (0 : Int32)) X.2.2.1 X.2.2.2.1 dJ23_stringSize_6 rfl k) ?_
    refine a_istore_n (pc := 7) X dJ23_stringSize_7 rfl hl (by decide) (lv' := [(1, vI (0 : Int32)), (0, vI v0)]) rfl (fun ls hl => ?_)
    refine a_iload_n (pc := 8) X dJ23_stringSize_8 rfl hl 1 rfl ?_
    refine AW.lift (fun _ _ _ _ k => lv_ineg (pc := 9) X.2.2.1 X.2.2.2.1 dJ23_stringSize_9 k) ?_
    refine a_istore_n (pc := 10) X dJ23_stringSize_10 rfl hl (by decide) (lv' := [(0, vI (-v0)), (1, vI (0 : Int32))]) rfl (fun ls hl => ?_)
    exact w_J23_stringSize_j11 GA Z (-v0) (0 : Int32)   (hl.sub [0, 1] rfl) hf
theorem w_J23_getChars_j104 {r : Except Nat (Int32) × AH} (GA : GA l s0 a0 K lam) (Z : WZ l s0 a0 K p s m c cJ23_getChars yJ23_getChars.cls 7 b R 0 0 meth [] (some (.int)) yJ23_getChars) (v2 : Option Nat) (v5 : Int32) (v6 : Int32)   {h : AH} {ls : Array Slot} (hl : LV ls 7 [(2, vR v2), (5, vI v5), (6, vI v6)]) (hf : f_J23_getChars_j104 K v2 v5 v6 h = some r) : AW s0 K lam p l e R s m args below meth c (AQ s0 K lam below oI b r s) b h (F0 m 104 ls []) := by
  unfold f_J23_getChars_j104 at hf
  have X := Z.1.1
  refine a_iload (pc := 104) X dJ23_getChars_104 hl 2 rfl ?_
  refine AW.lift2 (fun _ _ _ _ k1 k2 => lv_if_eq (pc := 106) (tgt := 118) X.2.2.1 X.2.2.2.1 dJ23_getChars_106 rfl k1 k2) (fun c => ?_) (fun c => ?_)
  · have hf := ite_t c hf
    refine a_iload (pc := 118) X dJ23_getChars_118 hl 1 rfl ?_
    exact a_ireturn X Z.2.2.1 Z.2.2.2.1 dJ23_getChars_120 hf
  · have hf := ite_f c hf
    refine a_aload_n (pc := 109) X dJ23_getChars_109 rfl hl 0 rfl ?_
    refine a_iinc (pc := 110) (v := (v5 + (-1 : Int32))) X dJ23_getChars_110 hl (k := 1) rfl rfl (by decide) (lv' := [(5, vI (v5 + (-1 : Int32))), (2, vR v2), (6, vI v6)]) rfl (fun ls hl => ?_)
    refine a_iload (pc := 113) X dJ23_getChars_113 hl 0 rfl ?_
    refine AW.lift (fun _ _ _ _ k => lv_bipush (pc := 115) (v := (45 : Int32)) X.2.2.1 X.2.2.2.1 dJ23_getChars_115 rfl k) ?_
    refine a_bastore (pc := 117) X rfl dJ23_getChars_117 hf (fun h hf => ?_)
    refine a_iload (pc := 118) X dJ23_getChars_118 hl 0 rfl ?_
    exact a_ireturn X Z.2.2.1 Z.2.2.2.1 dJ23_getChars_120 hf
theorem w_J23_getChars_j72 {r : Except Nat (Int32) × AH} (GA : GA l s0 a0 K lam) (Z : WZ l s0 a0 K p s m c cJ23_getChars yJ23_getChars.cls 7 b R 0 0 meth [] (some (.int)) yJ23_getChars) (v0 : Int32) (v2 : Option Nat) (v5 : Int32) (v6 : Int32)   {h : AH} {ls : Array Slot} (hl : LV ls 7 [(0, vI v0), (2, vR v2), (5, vI v5), (6, vI v6)]) (hf : f_J23_getChars_j72 K v0 v2 v5 v6 h = some r) : AW s0 K lam p l e R s m args below meth c (AQ s0 K lam below oI b r s) b h (F0 m 72 ls []) := by
  unfold f_J23_getChars_j72 at hf
  have X := Z.1.1
  refine a_aload_n (pc := 72) X dJ23_getChars_72 rfl hl 1 rfl ?_
  refine a_iinc (pc := 73) (v := (v5 + (-1 : Int32))) X dJ23_getChars_73 hl (k := 2) rfl rfl (by decide) (lv' := [(5, vI (v5 + (-1 : Int32))), (0, vI v0), (2, vR v2), (6, vI v6)]) rfl (fun ls hl => ?_)
  refine a_iload (pc := 76) X dJ23_getChars_76 hl 0 rfl ?_
  refine a_getstatic (pc := 78) (v := va_rf (some (K 8))) X (st_DigitOnes GA) (gw X.1 X.2.1 q675) (fun _ q => q) dJ23_getChars_78 ?_
  refine a_iload_n (pc := 81) X dJ23_getChars_81 rfl hl 1 rfl ?_
  refine AW.lift (fun _ _ _ _ k => lv_ineg (pc := 82) X.2.2.1 X.2.2.2.1 dJ23_getChars_82 k) ?_
  refine a_baload (pc := 83) X dJ23_getChars_83 hf (fun x83 hf => ?_)
  obtain ⟨hg, hf⟩ := chk_some hf
  refine a_bastore (pc := 84) X hg dJ23_getChars_84 hf (fun h hf => ?_)
  refine a_iload_n (pc := 85) X dJ23_getChars_85 rfl hl 1 rfl ?_
  refine AW.lift (fun _ _ _ _ k => lv_bipush (pc := 86) (v := (-9 : Int32)) X.2.2.1 X.2.2.2.1 dJ23_getChars_86 rfl k) ?_
  refine AW.lift2 (fun _ _ _ _ k1 k2 => lv_icmp_ge (pc := 88) (tgt := 104) X.2.2.1 X.2.2.2.1 dJ23_getChars_88 rfl k1 k2) (fun c => ?_) (fun c => ?_)
  · have hf := ite_t c hf
    exact w_J23_getChars_j104 GA Z v2 (v5 + (-1 : Int32)) v6   (hl.sub [2, 0, 3] rfl) hf
  · have hf := ite_f c hf
    refine a_aload_n (pc := 91) X dJ23_getChars_91 rfl hl 2 rfl ?_
    refine a_iinc (pc := 92) (v := ((v5 + (-1 : Int32)) + (-1 : Int32))) X dJ23_getChars_92 hl (k := 0) rfl rfl (by decide) (lv' := [(5, vI ((v5 + (-1 : Int32)) + (-1 : Int32))), (0, vI v0), (2, vR v2), (6, vI v6)]) rfl (fun ls hl => ?_)
    refine a_iload (pc := 95) X dJ23_getChars_95 hl 0 rfl ?_
    refine a_getstatic (pc := 97) (v := va_rf (some (K 9))) X (st_DigitTens GA) (gw X.1 X.2.1 q677) (fun _ q => q) dJ23_getChars_97 ?_
    refine a_iload_n (pc := 100) X dJ23_getChars_100 rfl hl 1 rfl ?_
    refine AW.lift (fun _ _ _ _ k => lv_ineg (pc := 101) X.2.2.1 X.2.2.2.1 dJ23_getChars_101 k) ?_
    refine a_baload (pc := 102) X dJ23_getChars_102 hf (fun x102 hf => ?_)
    obtain ⟨hg, hf⟩ := chk_some hf
    refine a_bastore (pc := 103) X hg dJ23_getChars_103 hf (fun h hf => ?_)
    exact w_J23_getChars_j104 GA Z v2 ((v5 + (-1 : Int32)) + (-1 : Int32)) v6   (hl.sub [2, 0, 3] rfl) hf
theorem w_J23_getChars_b22 {r : Except Nat (Int32) × AH} (GA : GA l s0 a0 K lam) (Z : WZ l s0 a0 K p s m c cJ23_getChars yJ23_getChars.cls 7 b R 0 0 meth [] (some (.int)) yJ23_getChars) (v0 : Int32) (v2 : Option Nat) (v5 : Int32) (v6 : Int32)  (rc22 : Int32 → Int32 → AM (Int32)) (hrc22 : ∀ (v0 : Int32) (v5 : Int32) (h : AH) (ls : Array Slot), LV ls 7 [(0, vI v0), (2, vR v2), (5, vI v5), (6, vI v6)] → rc22 v0 v5 h = some r → AW s0 K lam p l e R s m args below meth c (AQ s0 K lam below oI b r s) b h (F0 m 22 ls [])) {h : AH} {ls : Array Slot} (hl : LV ls 7 [(0, vI v0), (2, vR v2), (5, vI v5), (6, vI v6)]) (hf : f_J23_getChars_b22 K rc22 v0 v2 v5 v6 h = some r) : AW s0 K lam p l e R s m args below meth c (AQ s0 K lam below oI b r s) b h (F0 m 22 ls []) := by
  unfold f_J23_getChars_b22 at hf
  have X := Z.1.1
  refine a_iload_n (pc := 22) X dJ23_getChars_22 rfl hl 0 rfl ?_
  refine AW.lift (fun _ _ _ _ k => lv_bipush (pc := 23) (v := (-100 : Int32)) X.2.2.1 X.2.2.2.1 dJ23_getChars_23 rfl k) ?_
  refine AW.lift2 (fun _ _ _ _ k1 k2 => lv_icmp_gt (pc := 25) (tgt := 72) X.2.2.1 X.2.2.2.1 dJ23_getChars_25 rfl k1 k2) (fun c => ?_) (fun c => ?_)
  · have hf := ite_t c hf
    exact w_J23_getChars_j72 GA Z v0 v2 v5 v6   (hl.sub [0, 1, 2, 3] rfl) hf
  · have hf := ite_f c hf
    refine a_iload_n (pc := 28) X dJ23_getChars_28 rfl hl 0 rfl ?_
    refine AW.lift (fun _ _ _ _ k => lv_bipush (pc := 29) (v := (100 : Int32)) X.2.2.1 X.2.2.2.1 dJ23_getChars_29 rfl k) ?_
    refine AW.lift (fun _ _ _ _ k => lv_idiv (pc := 31) X.2.2.1 X.2.2.2.1 dJ23_getChars_31 (by decide) k) ?_
    refine a_istore_n (pc := 32) X dJ23_getChars_32 rfl hl (by decide) (lv' := [(3, vI (v0 / (100 : Int32))), (0, vI v0), (2, vR v2), (5, vI v5), (6, vI v6)]) rfl (fun ls hl => ?_)
    refine a_iload_n (pc := 33) X dJ23_getChars_33 rfl hl 0 rfl ?_
    refine AW.lift (fun _ _ _ _ k => lv_bipush (pc := 34) (v := (100 : Int32)) X.2.2.1 X.2.2.2.1 dJ23_getChars_34 rfl k) ?_
    refine AW.lift (fun _ _ _ _ k => lv_imul (pc := 36) X.2.2.1 X.2.2.2.1 dJ23_getChars_36 k) ?_
    refine a_iload_n (pc := 37) X dJ23_getChars_37 rfl hl 1 rfl ?_
    refine AW.lift (fun _ _ _ _ k => lv_isub (pc := 38) X.2.2.1 X.2.2.2.1 dJ23_getChars_38 k) ?_
    refine a_istore (pc := 39) X dJ23_getChars_39 hl (by decide) (lv' := [(4, vI (((v0 / (100 : Int32)) * (100 : Int32)) - v0)), (3, vI (v0 / (100 : Int32))), (0, vI v0), (2, vR v2), (5, vI v5), (6, vI v6)]) rfl (fun ls hl => ?_)
    refine a_iload_n (pc := 41) X dJ23_getChars_41 rfl hl 1 rfl ?_
    refine a_istore_n (pc := 42) X dJ23_getChars_42 rfl hl (by decide) (lv' := [(0, vI (v0 / (100 : Int32))), (4, vI (((v0 / (100 : Int32)) * (100 : Int32)) - v0)), (3, vI (v0 / (100 : Int32))), (2, vR v2), (5, vI v5), (6, vI v6)]) rfl (fun ls hl => ?_)
    refine a_aload_n (pc := 43) X dJ23_getChars_43 rfl hl 3 rfl ?_
    refine a_iinc (pc := 44) (v := (v5 + (-1 : Int32))) X dJ23_getChars_44 hl (k := 4) rfl rfl (by decide) (lv' := [(5, vI (v5 + (-1 : Int32))), (0, vI (v0 / (100 : Int32))), (4, vI (((v0 / (100 : Int32)) * (100 : Int32)) - v0)), (3, vI (v0 / (100 : Int32))), (2, vR v2), (6, vI v6)]) rfl (fun ls hl => ?_)
    refine a_iload (pc := 47) X dJ23_getChars_47 hl 0 rfl ?_
    refine a_getstatic (pc := 49) (v := va_rf (some (K 8))) X (st_DigitOnes GA) (gw X.1 X.2.1 q675) (fun _ q => q) dJ23_getChars_49 ?_
    refine a_iload (pc := 52) X dJ23_getChars_52 hl 2 rfl ?_
    refine a_baload (pc := 54) X dJ23_getChars_54 hf (fun x54 hf => ?_)
    obtain ⟨hg, hf⟩ := chk_some hf
    refine a_bastore (pc := 55) X hg dJ23_getChars_55 hf (fun h hf => ?_)
    refine a_aload_n (pc := 56) X dJ23_getChars_56 rfl hl 4 rfl ?_
    refine a_iinc (pc := 57) (v := ((v5 + (-1 : Int32)) + (-1 : Int32))) X dJ23_getChars_57 hl (k := 0) rfl rfl (by decide) (lv' := [(5, vI ((v5 + (-1 : Int32)) + (-1 : Int32))), (0, vI (v0 / (100 : Int32))), (4, vI (((v0 / (100 : Int32)) * (100 : Int32)) - v0)), (3, vI (v0 / (100 : Int32))), (2, vR v2), (6, vI v6)]) rfl (fun ls hl => ?_)
    refine a_iload (pc := 60) X dJ23_getChars_60 hl 0 rfl ?_
    refine a_getstatic (pc := 62) (v := va_rf (some (K 9))) X (st_DigitTens GA) (gw X.1 X.2.1 q677) (fun _ q => q) dJ23_getChars_62 ?_
    refine a_iload (pc := 65) X dJ23_getChars_65 hl 2 rfl ?_
    refine a_baload (pc := 67) X dJ23_getChars_67 hf (fun x67 hf => ?_)
    obtain ⟨hg, hf⟩ := chk_some hf
    refine a_bastore (pc := 68) X hg dJ23_getChars_68 hf (fun h hf => ?_)
    refine AW.lift (fun _ _ _ _ k => lv_goto (pc := 69) (tgt := 22) X.2.2.1 X.2.2.2.1 dJ23_getChars_69 rfl k) ?_
    exact hrc22 (v0 / (100 : Int32)) ((v5 + (-1 : Int32)) + (-1 : Int32)) _ _ (hl.sub [1, 4, 0, 5] rfl) hf
theorem w_J23_getChars_l22 {r : Except Nat (Int32) × AH} (GA : GA l s0 a0 K lam) (Z : WZ l s0 a0 K p s m c cJ23_getChars yJ23_getChars.cls 7 b R 0 0 meth [] (some (.int)) yJ23_getChars) (v2 : Option Nat) (v6 : Int32)  : ∀ (n : Nat) (v0 : Int32) (v5 : Int32) (h : AH) (ls : Array Slot), LV ls 7 [(0, vI v0), (2, vR v2), (5, vI v5), (6, vI v6)] → f_J23_getChars_l22 K v2 v6 n v0 v5 h = some r → AW s0 K lam p l e R s m args below meth c (AQ s0 K lam below oI b r s) b h (F0 m 22 ls []) := by
  intro n
  induction n with
  | zero => intro v0 v5 h ls hl hf; exact fl_no (h := h) hf
  | succ n ih => intro v0 v5 h ls hl hf; exact w_J23_getChars_b22 GA Z v0 v2 v5 v6 (f_J23_getChars_l22 K v2 v6 n) ih hl hf
theorem w_J23_getChars_j12 {r : Except Nat (Int32) × AH} (GA : GA l s0 a0 K lam) (Z : WZ l s0 a0 K p s m c cJ23_getChars yJ23_getChars.cls 7 b R 0 0 meth [] (some (.int)) yJ23_getChars) (v0 : Int32) (v2 : Option Nat) (v5 : Int32) (t0 : Int32)  {h : AH} {ls : Array Slot} (hl : LV ls 7 [(0, vI v0), (2, vR v2), (5, vI v5)]) (hf : f_J23_getChars_j12 K v0 v2 v5 t0 h = some r) : AW s0 K lam p l e R s m args below meth c (AQ s0 K lam below oI b r s) b h (F0 m 12 ls [.int t0]) := by
  unfold f_J23_getChars_j12 at hf
  have X := Z.1.1
  refine a_istore (pc := 12) X dJ23_getChars_12 hl (by decide) (lv' := [(6, vI t0), (0, vI v0), (2, vR v2), (5, vI v5)]) rfl (fun ls hl => ?_)
  refine a_iload (pc := 14) X dJ23_getChars_14 hl 0 rfl ?_
  refine AW.lift2 (fun _ _ _ _ k1 k2 => lv_if_ne (pc := 16) (tgt := 22) X.2.2.1 X.2.2.2.1 dJ23_getChars_16 rfl k2 k1) (fun c => ?_) (fun c => ?_)
  · have hf := ite_t c hf
    refine a_iload_n (pc := 19) X dJ23_getChars_19 rfl hl 1 rfl ?_
    refine AW.lift (fun _ _ _ _ k => lv_ineg (pc := 20) X.2.2.1 X.2.2.2.1 dJ23_getChars_20 k) ?_
    refine a_istore_n (pc := 21) X dJ23_getChars_21 rfl hl (by decide) (lv' := [(0, vI (-v0)), (6, vI t0), (2, vR v2), (5, vI v5)]) rfl (fun ls hl => ?_)
    exact w_J23_getChars_l22 GA Z v2 t0  FU (-v0) v5 _ _ (hl.sub [0, 2, 3, 1] rfl) hf
  · have hf := ite_f c hf
    exact w_J23_getChars_l22 GA Z v2 t0  FU v0 v5 _ _ (hl.sub [1, 2, 3, 0] rfl) hf
theorem np_J23_getChars : npar yJ23_getChars.desc 3 := by unfold npar; decide +kernel
theorem hy_J23_getChars : yJ23_getChars.cls ≠ "java/lang/invoke/MethodHandle" ∧ yJ23_getChars.cls ≠ "java/lang/invoke/VarHandle" := by decide +kernel
theorem w_J23_getChars (GA : GA l s0 a0 K lam) (v0 : Int32) (v1 : Int32) (v2 : Option Nat) : AMet l s0 K lam yJ23_getChars (Cond.code yJ23_getChars cJ23_getChars (7 : Nat) (Option.some ClassFile.FieldType.int)) 0 0 [vI v0, vI v1, vR v2] oI (f_J23_getChars K v0 v1 v2) := by
  refine AMet.of GA.1 (plainFor_of_name (by decide +kernel)) (Nat.le_of_ble_eq_true rfl) ?_
  intro b r hf p e s m args below meth c X hr hlk hnm hnd ht ls hl
  have Z : WZ l s0 a0 K p s m c cJ23_getChars yJ23_getChars.cls 7 b { frames := 0, cells := K 0 - aX b, slots := K 1 - aW b, locals := 0 } 0 0 meth [] (some (.int)) yJ23_getChars := ⟨⟨X, GA.2.1, GA.2.2.1, rfl, rfl, Nat.le_refl _, Nat.le_refl _⟩, tab_nil ht, hr, hlk, hnm, hnd⟩
  unfold f_J23_getChars at hf
  clear hr hlk hnm hnd ht
  refine a_iload_n (pc := 0) X dJ23_getChars_0 rfl hl 1 rfl ?_
  refine a_istore (pc := 1) X dJ23_getChars_1 hl (by decide) (lv' := [(5, vI v1), (0, vI v0), (1, vI v1), (2, vR v2)]) rfl (fun ls hl => ?_)
  refine a_iload_n (pc := 3) X dJ23_getChars_3 rfl hl 1 rfl ?_
  refine AW.lift2 (fun _ _ _ _ k1 k2 => lv_if_ge (pc := 4) (tgt := 11) X.2.2.1 X.2.2.2.1 dJ23_getChars_4 rfl k1 k2) (fun c => ?_) (fun c => ?_)
  · have hf := ite_t c hf
    refine AW.lift (fun _ _ _ _ k => lv_iconst (pc := 11) (v := (0 : Int32)) X.2.2.1 X.2.2.2.1 dJ23_getChars_11 rfl k) ?_
    exact w_J23_getChars_j12 GA Z v0 v2 v1 (0 : Int32)  (hl.sub [1, 3, 0] rfl) hf
  · have hf := ite_f c hf
    refine AW.lift (fun _ _ _ _ k => lv_iconst (pc := 7) (v := (1 : Int32)) X.2.2.1 X.2.2.2.1 dJ23_getChars_7 rfl k) ?_
    refine AW.lift (fun _ _ _ _ k => lv_goto (pc := 8) (tgt := 12) X.2.2.1 X.2.2.2.1 dJ23_getChars_8 rfl k) ?_
    exact w_J23_getChars_j12 GA Z v0 v2 v1 (1 : Int32)  (hl.sub [1, 3, 0] rfl) hf
theorem w_J5_append_2_j48 {r : Except Nat (Option Nat) × AH} (GA : GA l s0 a0 K lam) (Z : WZ l s0 a0 K p s m c cJ5_append_2 yJ5_append_2.cls 4 b R 4 99 meth [] (some (.object "java/lang/AbstractStringBuilder")) yJ5_append_2) (v0 : Option Nat) (v3 : Int32)   {h : AH} {ls : Array Slot} (hl : LV ls 4 [(0, vR v0), (3, vI v3)]) (hf : f_J5_append_2_j48 K v0 v3 h = some r) : AW s0 K lam p l e R s m args below meth c (AQ s0 K lam below oR b r s) b h (F0 m 48 ls []) := by
  unfold f_J5_append_2_j48 at hf
  have X := Z.1.1
  refine a_aload_n (pc := 48) X dJ5_append_2_48 rfl hl 0 rfl ?_
  refine a_iload_n (pc := 49) X dJ5_append_2_49 rfl hl 1 rfl ?_
  refine a_put (pc := 50) (φ := 3503) X Z.1.2.1 Z.1.2.2.1 (gw X.1 X.2.1 q297) (fun _ q => q) (by decide) rfl rfl dJ5_append_2_50 hf (fun h hf => ?_)
  refine a_aload_n (pc := 53) X dJ5_append_2_53 rfl hl 0 rfl ?_
  exact a_areturn X Z.2.2.1 (Or.inl ⟨_, rfl⟩) Z.2.2.2.1 dJ5_append_2_54 hf
theorem np_J5_append_2 : npar yJ5_append_2.desc 1 := by unfold npar; decide +kernel
theorem hy_J5_append_2 : yJ5_append_2.cls ≠ "java/lang/invoke/MethodHandle" ∧ yJ5_append_2.cls ≠ "java/lang/invoke/VarHandle" := by decide +kernel
theorem w_J5_append_2 (GA : GA l s0 a0 K lam) (v0 : Option Nat) (v1 : Int32) : AMet l s0 K lam yJ5_append_2 (Cond.code yJ5_append_2 cJ5_append_2 (4 : Nat) (Option.some (ClassFile.FieldType.object "java/lang/AbstractStringBuilder"))) 4 99 [vR v0, vI v1] oR (f_J5_append_2 K v0 v1) := by
  refine AMet.of GA.1 (plainFor_of_name (by decide +kernel)) (Nat.le_of_ble_eq_true rfl) ?_
  intro b r hf p e s m args below meth c X hr hlk hnm hnd ht ls hl
  have Z : WZ l s0 a0 K p s m c cJ5_append_2 yJ5_append_2.cls 4 b { frames := 4, cells := K 0 - aX b, slots := K 1 - aW b, locals := 99 } 4 99 meth [] (some (.object "java/lang/AbstractStringBuilder")) yJ5_append_2 := ⟨⟨X, GA.2.1, GA.2.2.1, rfl, rfl, Nat.le_refl _, Nat.le_refl _⟩, tab_nil ht, hr, hlk, hnm, hnd⟩
  unfold f_J5_append_2 at hf
  clear hr hlk hnm hnd ht
  refine a_aload_n (pc := 0) X dJ5_append_2_0 rfl hl 0 rfl ?_
  refine a_get (pc := 1) (φ := 3503) pI_t X Z.1.2.1 (gw X.1 X.2.1 q297) (fun _ q => q) (by decide) dJ5_append_2_1 hf (fun x1 hf => ?_)
  refine a_istore_n (pc := 4) X dJ5_append_2_4 rfl hl (by decide) (lv' := [(2, vI x1), (0, vR v0), (1, vI v1)]) rfl (fun ls hl => ?_)
  refine a_iload_n (pc := 5) X dJ5_append_2_5 rfl hl 0 rfl ?_
  refine a_iload_n (pc := 6) X dJ5_append_2_6 rfl hl 2 rfl ?_
  refine a_callb (pc := 7) (rs := [vI x1]) (avs := [vI v1]) Z.1 (w_J23_stringSize GA v1) (Or.inl rfl) q671 q105 (by decide) (by decide) dJ5_append_2_7 hl.1 (Nat.le_of_ble_eq_true rfl) hf (ct_S X (Or.inl rfl) q671 q105 q669 q670 hy_J23_stringSize np_J23_stringSize rfl dJ5_append_2_7) (fun q h he hX => a_out (unc_of Z.2.1 rfl) Z.2.2.2.1 he hX) (fun x7 h hf => ?kk7)
  refine AW.eq (g2 := F0 m 10 ls [.int x7, .int x1]) rfl ?_
  refine AW.lift (fun _ _ _ _ k => lv_iadd (pc := 10) X.2.2.1 X.2.2.2.1 dJ5_append_2_10 k) ?_
  refine a_istore_n (pc := 11) X dJ5_append_2_11 rfl hl (by decide) (lv' := [(3, vI (x1 + x7)), (2, vI x1), (0, vR v0), (1, vI v1)]) rfl (fun ls hl => ?_)
  refine a_aload_n (pc := 12) X dJ5_append_2_12 rfl hl 2 rfl ?_
  refine a_iload_n (pc := 13) X dJ5_append_2_13 rfl hl 0 rfl ?_
  obtain ⟨a14, rfl, ⟨hk, hf⟩ | ⟨-, hf⟩⟩ := dv_some hf
  rotate_left
  · exact fl_none hf
  refine a_callb (pc := 14) (rs := []) (avs := [vR (some a14), vI (x1 + x7)]) Z.1 (w_J5_ensureCapacityInternal GA (some a14) (x1 + x7)) (Or.inl rfl) q556 q82 (by decide) (by decide) dJ5_append_2_14 hl.1 (Nat.le_of_ble_eq_true rfl) hf (ct_Vp hk ⟨by decide, by decide⟩ X (Or.inl rfl) q556 q553 q555 q554 q591 rfl hy_J5_ensureCapacityInternal np_J5_ensureCapacityInternal rfl dJ5_append_2_14) (fun q h he hX => a_out (unc_of Z.2.1 rfl) Z.2.2.2.1 he hX) (fun _ h hf => ?kk14)
  refine AW.eq (g2 := F0 m 17 ls []) rfl ?_
  refine a_aload_n (pc := 17) X dJ5_append_2_17 rfl hl 2 rfl ?_
  rcases dv_someS hf with ⟨hk, hf⟩ | ⟨-, hf⟩
  rotate_left
  · exact fl_none hf
  refine a_callb (pc := 18) (rs := []) (avs := [vR (some a14)]) Z.1 (w_J5_isLatin1 GA (some a14)) (Or.inl rfl) q592 q82 (by decide) (by decide) dJ5_append_2_18 hl.1 (Nat.le_of_ble_eq_true rfl) hf (ct_V hk ⟨by decide, by decide⟩ X (Or.inl rfl) q592 q588 q589 q591 hy_J5_isLatin1 np_J5_isLatin1 rfl dJ5_append_2_18) (fun q h he hX => a_out (unc_of Z.2.1 rfl) Z.2.2.2.1 he hX) (fun x18 h hf => ?kk18)
  refine AW.eq (g2 := F0 m 21 ls [.int x18]) rfl ?_
  refine AW.lift2 (fun _ _ _ _ k1 k2 => lv_if_eq (pc := 21) (tgt := 37) X.2.2.1 X.2.2.2.1 dJ5_append_2_21 rfl k1 k2) (fun c => ?_) (fun c => ?_)
  · have hf := ite_t c hf
    refine a_iload_n (pc := 37) X dJ5_append_2_37 rfl hl 3 rfl ?_
    refine a_iload_n (pc := 38) X dJ5_append_2_38 rfl hl 1 rfl ?_
    refine a_iload_n (pc := 39) X dJ5_append_2_39 rfl hl 0 rfl ?_
    refine a_aload_n (pc := 40) X dJ5_append_2_40 rfl hl 2 rfl ?_
    refine a_get (pc := 41) (φ := 3500) pR_t X Z.1.2.1 (gw X.1 X.2.1 q293) (fun _ q => q) (by decide) dJ5_append_2_41 hf (fun x41 hf => ?_)
    exact fl_no hf
  · have hf := ite_f c hf
    refine a_iload_n (pc := 24) X dJ5_append_2_24 rfl hl 3 rfl ?_
    refine a_iload_n (pc := 25) X dJ5_append_2_25 rfl hl 0 rfl ?_
    refine a_aload_n (pc := 26) X dJ5_append_2_26 rfl hl 2 rfl ?_
    refine a_get (pc := 27) (φ := 3500) pR_t X Z.1.2.1 (gw X.1 X.2.1 q293) (fun _ q => q) (by decide) dJ5_append_2_27 hf (fun x27 hf => ?_)
    refine a_callb (pc := 30) (rs := []) (avs := [vI v1, vI (x1 + x7), vR x27]) Z.1 (w_J23_getChars GA v1 (x1 + x7) x27) (Or.inl rfl) q674 q105 (by decide) (by decide) dJ5_append_2_30 hl.1 (Nat.le_of_ble_eq_true rfl) hf (ct_S X (Or.inl rfl) q674 q105 q672 q673 hy_J23_getChars np_J23_getChars rfl dJ5_append_2_30) (fun q h he hX => a_out (unc_of Z.2.1 rfl) Z.2.2.2.1 he hX) (fun x30 h hf => ?kk30)
    refine AW.eq (g2 := F0 m 33 ls [.int x30]) rfl ?_
    refine AW.lift (fun _ _ _ _ k => lv_pop (pc := 33) X.2.2.1 X.2.2.2.1 dJ5_append_2_33 rfl k) ?_
    refine AW.lift (fun _ _ _ _ k => lv_goto (pc := 34) (tgt := 48) X.2.2.1 X.2.2.2.1 dJ5_append_2_34 rfl k) ?_
    exact w_J5_append_2_j48 GA Z (some a14) (x1 + x7)   (hl.sub [2, 0] rfl) hf
theorem np_J6_append_2 : npar yJ6_append_2.desc 1 := by unfold npar; decide +kernel
theorem hy_J6_append_2 : yJ6_append_2.cls ≠ "java/lang/invoke/MethodHandle" ∧ yJ6_append_2.cls ≠ "java/lang/invoke/VarHandle" := by decide +kernel
theorem w_J6_append_2 (GA : GA l s0 a0 K lam) (v0 : Option Nat) (v1 : Int32) : AMet l s0 K lam yJ6_append_2 (Cond.code yJ6_append_2 cJ6_append_2 (2 : Nat) (Option.some (ClassFile.FieldType.object "java/lang/StringBuilder"))) 5 122 [vR v0, vI v1] oR (f_J6_append_2 K v0 v1) := by
  refine AMet.of GA.1 (plainFor_of_name (by decide +kernel)) (Nat.le_of_ble_eq_true rfl) ?_
  intro b r hf p e s m args below meth c X hr hlk hnm hnd ht ls hl
  have Z : WZ l s0 a0 K p s m c cJ6_append_2 yJ6_append_2.cls 2 b { frames := 5, cells := K 0 - aX b, slots := K 1 - aW b, locals := 122 } 5 122 meth [] (some (.object "java/lang/StringBuilder")) yJ6_append_2 := ⟨⟨X, GA.2.1, GA.2.2.1, rfl, rfl, Nat.le_refl _, Nat.le_refl _⟩, tab_nil ht, hr, hlk, hnm, hnd⟩
  unfold f_J6_append_2 at hf
  clear hr hlk hnm hnd ht
  refine a_aload_n (pc := 0) X dJ6_append_2_0 rfl hl 0 rfl ?_
  refine a_iload_n (pc := 1) X dJ6_append_2_1 rfl hl 1 rfl ?_
  obtain ⟨a2, rfl, ⟨hk, hf⟩ | ⟨-, hf⟩⟩ := dv_some hf
  rotate_left
  · exact fl_none hf
  refine a_callb (pc := 2) (rs := []) (avs := [vR (some a2), vI v1]) Z.1 (w_J5_append_2 GA (some a2) v1) (Or.inl rfl) q668 q82 (by decide) (by decide) dJ6_append_2_2 hl.1 (Nat.le_of_ble_eq_true rfl) hf (ct_P hk ⟨by decide, by decide⟩ X (Or.inl rfl) q668 q666 q3479 q667 q306 (by decide) np_J5_append_2 rfl dJ6_append_2_2) (fun q h he hX => a_out (unc_of Z.2.1 rfl) Z.2.2.2.1 he hX) (fun x2 h hf => ?kk2)
  refine AW.eq (g2 := F0 m 5 ls [va_rf x2]) rfl ?_
  refine AW.lift (fun _ _ _ _ k => lv_pop (pc := 5) X.2.2.1 X.2.2.2.1 dJ6_append_2_5 (cat_rf _) k) ?_
  refine a_aload_n (pc := 6) X dJ6_append_2_6 rfl hl 0 rfl ?_
  exact a_areturn X Z.2.2.1 (Or.inl ⟨_, rfl⟩) Z.2.2.2.1 dJ6_append_2_7 hf
theorem np_J7_coder : npar yJ7_coder.desc 0 := by unfold npar; decide +kernel
theorem hy_J7_coder : yJ7_coder.cls ≠ "java/lang/invoke/MethodHandle" ∧ yJ7_coder.cls ≠ "java/lang/invoke/VarHandle" := by decide +kernel
theorem w_J7_coder (GA : GA l s0 a0 K lam) (v0 : Option Nat) : AMet l s0 K lam yJ7_coder (Cond.code yJ7_coder cJ7_coder (1 : Nat) (Option.some ClassFile.FieldType.byte)) 0 0 [vR v0] oI (f_J7_coder K v0) := by
  refine AMet.of GA.1 (plainFor_of_name (by decide +kernel)) (Nat.le_of_ble_eq_true rfl) ?_
  intro b r hf p e s m args below meth c X hr hlk hnm hnd ht ls hl
  have Z : WZ l s0 a0 K p s m c cJ7_coder yJ7_coder.cls 1 b { frames := 0, cells := K 0 - aX b, slots := K 1 - aW b, locals := 0 } 0 0 meth [] (some (.byte)) yJ7_coder := ⟨⟨X, GA.2.1, GA.2.2.1, rfl, rfl, Nat.le_refl _, Nat.le_refl _⟩, tab_nil ht, hr, hlk, hnm, hnd⟩
  unfold f_J7_coder at hf
  clear hr hlk hnm hnd ht
  refine a_getstatic (pc := 0) (v := .int (1 : Int32)) X (st_COMPACT_STRINGS GA) (gw X.1 X.2.1 q627) (fun _ q => q) dJ7_coder_0 ?_
  refine AW.lift2 (fun _ _ _ _ k1 k2 => lv_if_eq (pc := 3) (tgt := 13) X.2.2.1 X.2.2.2.1 dJ7_coder_3 rfl k1 k2) (fun c => ?_) (fun c => ?_)
  · have hf := ite_t c hf
    refine AW.lift (fun _ _ _ _ k => lv_iconst (pc := 13) (v := (1 : Int32)) X.2.2.1 X.2.2.2.1 dJ7_coder_13 rfl k) ?_
    exact a_zreturn X Z.2.2.1 rfl Z.2.2.2.1 dJ7_coder_14 hf
  · have hf := ite_f c hf
    refine a_aload_n (pc := 6) X dJ7_coder_6 rfl hl 0 rfl ?_
    refine a_get (pc := 7) (φ := 3401) pI_t X Z.1.2.1 (gw X.1 X.2.1 q776) (fun _ q => q) (by decide) dJ7_coder_7 hf (fun x7 hf => ?_)
    refine AW.lift (fun _ _ _ _ k => lv_goto (pc := 10) (tgt := 14) X.2.2.1 X.2.2.2.1 dJ7_coder_10 rfl k) ?_
    obtain ⟨hg, hf⟩ := chk_some hf
    exact a_zreturn X Z.2.2.1 hg Z.2.2.2.1 dJ7_coder_14 hf
theorem np_J7_length : npar yJ7_length.desc 0 := by unfold npar; decide +kernel
theorem hy_J7_length : yJ7_length.cls ≠ "java/lang/invoke/MethodHandle" ∧ yJ7_length.cls ≠ "java/lang/invoke/VarHandle" := by decide +kernel
theorem w_J7_length (GA : GA l s0 a0 K lam) (v0 : Option Nat) : AMet l s0 K lam yJ7_length (Cond.code yJ7_length cJ7_length (1 : Nat) (Option.some ClassFile.FieldType.int)) 1 20 [vR v0] oI (f_J7_length K v0) := by
  refine AMet.of GA.1 (plainFor_of_name (by decide +kernel)) (Nat.le_of_ble_eq_true rfl) ?_
  intro b r hf p e s m args below meth c X hr hlk hnm hnd ht ls hl
  have Z : WZ l s0 a0 K p s m c cJ7_length yJ7_length.cls 1 b { frames := 1, cells := K 0 - aX b, slots := K 1 - aW b, locals := 20 } 1 20 meth [] (some (.int)) yJ7_length := ⟨⟨X, GA.2.1, GA.2.2.1, rfl, rfl, Nat.le_refl _, Nat.le_refl _⟩, tab_nil ht, hr, hlk, hnm, hnd⟩
  unfold f_J7_length at hf
  clear hr hlk hnm hnd ht
  refine a_aload_n (pc := 0) X dJ7_length_0 rfl hl 0 rfl ?_
  refine a_get (pc := 1) (φ := 3400) pR_t X Z.1.2.1 (gw X.1 X.2.1 q775) (fun _ q => q) (by decide) dJ7_length_1 hf (fun x1 hf => ?_)
  refine a_arraylength (pc := 4) X dJ7_length_4 hf (fun x4 hf => ?_)
  refine a_aload_n (pc := 5) X dJ7_length_5 rfl hl 0 rfl ?_
  obtain ⟨a6, rfl, ⟨hk, hf⟩ | ⟨-, hf⟩⟩ := dv_some hf
  rotate_left
  · exact fl_none hf
  refine a_callb (pc := 6) (rs := [vI x4]) (avs := [vR (some a6)]) Z.1 (w_J7_coder GA (some a6)) (Or.inl rfl) q626 q84 (by decide) (by decide) dJ7_length_6 hl.1 (Nat.le_of_ble_eq_true rfl) hf (ct_V hk ⟨by decide, by decide⟩ X (Or.inl rfl) q626 q623 q624 q625 hy_J7_coder np_J7_coder rfl dJ7_length_6) (fun q h he hX => a_out (unc_of Z.2.1 rfl) Z.2.2.2.1 he hX) (fun x6 h hf => ?kk6)
  refine AW.eq (g2 := F0 m 9 ls [.int x6, .int x4]) rfl ?_
  refine AW.lift (fun _ _ _ _ k => lv_ishr (pc := 9) X.2.2.1 X.2.2.2.1 dJ7_length_9 k) ?_
  exact a_ireturn X Z.2.2.1 Z.2.2.2.1 dJ7_length_10 hf
theorem np_J5_inflateIfNeededFor : npar yJ5_inflateIfNeededFor.desc 1 := by unfold npar; decide +kernel
theorem hy_J5_inflateIfNeededFor : yJ5_inflateIfNeededFor.cls ≠ "java/lang/invoke/MethodHandle" ∧ yJ5_inflateIfNeededFor.cls ≠ "java/lang/invoke/VarHandle" := by decide +kernel
theorem w_J5_inflateIfNeededFor (GA : GA l s0 a0 K lam) (v0 : Option Nat) (v1 : Option Nat) : AMet l s0 K lam yJ5_inflateIfNeededFor (Cond.code yJ5_inflateIfNeededFor cJ5_inflateIfNeededFor (2 : Nat) (Option.none : Option ClassFile.FieldType)) 1 20 [vR v0, vR v1] oV (f_J5_inflateIfNeededFor K v0 v1) := by
  refine AMet.of GA.1 (plainFor_of_name (by decide +kernel)) (Nat.le_of_ble_eq_true rfl) ?_
  intro b r hf p e s m args below meth c X hr hlk hnm hnd ht ls hl
  have Z : WZ l s0 a0 K p s m c cJ5_inflateIfNeededFor yJ5_inflateIfNeededFor.cls 2 b { frames := 1, cells := K 0 - aX b, slots := K 1 - aW b, locals := 20 } 1 20 meth [] none yJ5_inflateIfNeededFor := ⟨⟨X, GA.2.1, GA.2.2.1, rfl, rfl, Nat.le_refl _, Nat.le_refl _⟩, tab_nil ht, hr, hlk, hnm, hnd⟩
  unfold f_J5_inflateIfNeededFor at hf
  clear hr hlk hnm hnd ht
  refine a_getstatic (pc := 0) (v := .int (1 : Int32)) X (st_COMPACT_STRINGS GA) (gw X.1 X.2.1 q284) (fun _ q => q) dJ5_inflateIfNeededFor_0 ?_
  refine AW.lift2 (fun _ _ _ _ k1 k2 => lv_if_eq (pc := 3) (tgt := 21) X.2.2.1 X.2.2.2.1 dJ5_inflateIfNeededFor_3 rfl k1 k2) (fun c => ?_) (fun c => ?_)
  · have hf := ite_t c hf
    exact a_return X Z.2.2.1 Z.2.2.2.1 dJ5_inflateIfNeededFor_21 hf
  · have hf := ite_f c hf
    refine a_aload_n (pc := 6) X dJ5_inflateIfNeededFor_6 rfl hl 0 rfl ?_
    refine a_get (pc := 7) (φ := 3501) pI_t X Z.1.2.1 (gw X.1 X.2.1 q294) (fun _ q => q) (by decide) dJ5_inflateIfNeededFor_7 hf (fun x7 hf => ?_)
    refine a_aload_n (pc := 10) X dJ5_inflateIfNeededFor_10 rfl hl 1 rfl ?_
    obtain ⟨a11, rfl, ⟨hk, hf⟩ | ⟨-, hf⟩⟩ := dv_some hf
    rotate_left
    · exact fl_none hf
    refine a_callb (pc := 11) (rs := [vI x7]) (avs := [vR (some a11)]) Z.1 (w_J7_coder GA (some a11)) (Or.inl rfl) q626 q84 (by decide) (by decide) dJ5_inflateIfNeededFor_11 hl.1 (Nat.le_of_ble_eq_true rfl) hf (ct_V hk ⟨by decide, by decide⟩ X (Or.inl rfl) q626 q636 q624 q625 hy_J7_coder np_J7_coder rfl dJ5_inflateIfNeededFor_11) (fun q h he hX => a_out (unc_of Z.2.1 rfl) Z.2.2.2.1 he hX) (fun x11 h hf => ?kk11)
    refine AW.eq (g2 := F0 m 14 ls [.int x11, .int x7]) rfl ?_
    refine AW.lift2 (fun _ _ _ _ k1 k2 => lv_icmp_eq (pc := 14) (tgt := 21) X.2.2.1 X.2.2.2.1 dJ5_inflateIfNeededFor_14 rfl k1 k2) (fun c => ?_) (fun c => ?_)
    · have hf := ite_t c hf
      exact a_return X Z.2.2.1 Z.2.2.2.1 dJ5_inflateIfNeededFor_21 hf
    · have hf := ite_f c hf
      refine a_aload_n (pc := 17) X dJ5_inflateIfNeededFor_17 rfl hl 0 rfl ?_
      exact fl_no hf
theorem np_J21_inflate : npar yJ21_inflate.desc 5 := by unfold npar; decide +kernel
theorem hy_J21_inflate : yJ21_inflate.cls ≠ "java/lang/invoke/MethodHandle" ∧ yJ21_inflate.cls ≠ "java/lang/invoke/VarHandle" := by decide +kernel
theorem w_J21_inflate (GA : GA l s0 a0 K lam) (v0 : Option Nat) (v1 : Int32) (v2 : Option Nat) (v3 : Int32) (v4 : Int32) : AMet l s0 K lam yJ21_inflate (Cond.code yJ21_inflate cJ21_inflate (5 : Nat) (Option.none : Option ClassFile.FieldType)) 0 0 [vR v0, vI v1, vR v2, vI v3, vI v4] oV (f_J21_inflate K v0 v1 v2 v3 v4) := by
  refine AMet.of GA.1 (plainFor_of_name (by decide +kernel)) (Nat.le_of_ble_eq_true rfl) ?_
  intro b r hf p e s m args below meth c X hr hlk hnm hnd ht ls hl
  have Z : WZ l s0 a0 K p s m c cJ21_inflate yJ21_inflate.cls 5 b { frames := 0, cells := K 0 - aX b, slots := K 1 - aW b, locals := 0 } 0 0 meth [] none yJ21_inflate := ⟨⟨X, GA.2.1, GA.2.2.1, rfl, rfl, Nat.le_refl _, Nat.le_refl _⟩, tab_nil ht, hr, hlk, hnm, hnd⟩
  unfold f_J21_inflate at hf
  clear hr hlk hnm hnd ht
  refine a_aload_n (pc := 0) X dJ21_inflate_0 rfl hl 0 rfl ?_
  refine a_iload_n (pc := 1) X dJ21_inflate_1 rfl hl 1 rfl ?_
  refine a_aload_n (pc := 2) X dJ21_inflate_2 rfl hl 2 rfl ?_
  refine a_iload_n (pc := 3) X dJ21_inflate_3 rfl hl 3 rfl ?_
  refine a_iload (pc := 4) X dJ21_inflate_4 hl 4 rfl ?_
  exact fl_no hf
theorem np_J7_getBytes : npar yJ7_getBytes.desc 3 := by unfold npar; decide +kernel
theorem hy_J7_getBytes : yJ7_getBytes.cls ≠ "java/lang/invoke/MethodHandle" ∧ yJ7_getBytes.cls ≠ "java/lang/invoke/VarHandle" := by decide +kernel
theorem w_J7_getBytes (GA : GA l s0 a0 K lam) (v0 : Option Nat) (v1 : Option Nat) (v2 : Int32) (v3 : Int32) : AMet l s0 K lam yJ7_getBytes (Cond.code yJ7_getBytes cJ7_getBytes (4 : Nat) (Option.none : Option ClassFile.FieldType)) 1 48 [vR v0, vR v1, vI v2, vI v3] oV (f_J7_getBytes K v0 v1 v2 v3) := by
  refine AMet.of GA.1 (plainFor_of_name (by decide +kernel)) (Nat.le_of_ble_eq_true rfl) ?_
  intro b r hf p e s m args below meth c X hr hlk hnm hnd ht ls hl
  have Z : WZ l s0 a0 K p s m c cJ7_getBytes yJ7_getBytes.cls 4 b { frames := 1, cells := K 0 - aX b, slots := K 1 - aW b, locals := 48 } 1 48 meth [] none yJ7_getBytes := ⟨⟨X, GA.2.1, GA.2.2.1, rfl, rfl, Nat.le_refl _, Nat.le_refl _⟩, tab_nil ht, hr, hlk, hnm, hnd⟩
  unfold f_J7_getBytes at hf
  clear hr hlk hnm hnd ht
  refine a_aload_n (pc := 0) X dJ7_getBytes_0 rfl hl 0 rfl ?_
  obtain ⟨a1, rfl, ⟨hk, hf⟩ | ⟨-, hf⟩⟩ := dv_some hf
  rotate_left
  · exact fl_none hf
  refine a_callb (pc := 1) (rs := []) (avs := [vR (some a1)]) Z.1 (w_J7_coder GA (some a1)) (Or.inl rfl) q626 q84 (by decide) (by decide) dJ7_getBytes_1 hl.1 (Nat.le_of_ble_eq_true rfl) hf (ct_V hk ⟨by decide, by decide⟩ X (Or.inl rfl) q626 q623 q624 q625 hy_J7_coder np_J7_coder rfl dJ7_getBytes_1) (fun q h he hX => a_out (unc_of Z.2.1 rfl) Z.2.2.2.1 he hX) (fun x1 h hf => ?kk1)
  refine AW.eq (g2 := F0 m 4 ls [.int x1]) rfl ?_
  refine a_iload_n (pc := 4) X dJ7_getBytes_4 rfl hl 3 rfl ?_
  refine AW.lift2 (fun _ _ _ _ k1 k2 => lv_icmp_ne (pc := 5) (tgt := 28) X.2.2.1 X.2.2.2.1 dJ7_getBytes_5 rfl k2 k1) (fun c => ?_) (fun c => ?_)
  · have hf := ite_t c hf
    refine a_aload_n (pc := 8) X dJ7_getBytes_8 rfl hl 0 rfl ?_
    refine a_get (pc := 9) (φ := 3400) pR_t X Z.1.2.1 (gw X.1 X.2.1 q775) (fun _ q => q) (by decide) dJ7_getBytes_9 hf (fun x9 hf => ?_)
    refine AW.lift (fun _ _ _ _ k => lv_iconst (pc := 12) (v := (0 : Int32)) X.2.2.1 X.2.2.2.1 dJ7_getBytes_12 rfl k) ?_
    refine a_aload_n (pc := 13) X dJ7_getBytes_13 rfl hl 1 rfl ?_
    refine a_iload_n (pc := 14) X dJ7_getBytes_14 rfl hl 2 rfl ?_
    refine a_iload_n (pc := 15) X dJ7_getBytes_15 rfl hl 3 rfl ?_
    refine AW.lift (fun _ _ _ _ k => lv_ishl (pc := 16) X.2.2.1 X.2.2.2.1 dJ7_getBytes_16 k) ?_
    refine a_aload_n (pc := 17) X dJ7_getBytes_17 rfl hl 0 rfl ?_
    refine a_get (pc := 18) (φ := 3400) pR_t X Z.1.2.1 (gw X.1 X.2.1 q775) (fun _ q => q) (by decide) dJ7_getBytes_18 hf (fun x18 hf => ?_)
    refine a_arraylength (pc := 21) X dJ7_getBytes_21 hf (fun x21 hf => ?_)
    refine a_acp (pc := 22) (rs := []) Z.1 q660 q587 q586 q95 (by decide) (by decide) hl.1 (Nat.le_of_ble_eq_true rfl) (by decide) dJ7_getBytes_22 hf (fun h hf => ?_)
    refine AW.eq (g2 := F0 m 25 ls []) rfl ?_
    refine AW.lift (fun _ _ _ _ k => lv_goto (pc := 25) (tgt := 43) X.2.2.1 X.2.2.2.1 dJ7_getBytes_25 rfl k) ?_
    exact a_return X Z.2.2.1 Z.2.2.2.1 dJ7_getBytes_43 hf
  · have hf := ite_f c hf
    refine a_aload_n (pc := 28) X dJ7_getBytes_28 rfl hl 0 rfl ?_
    refine a_get (pc := 29) (φ := 3400) pR_t X Z.1.2.1 (gw X.1 X.2.1 q775) (fun _ q => q) (by decide) dJ7_getBytes_29 hf (fun x29 hf => ?_)
    refine AW.lift (fun _ _ _ _ k => lv_iconst (pc := 32) (v := (0 : Int32)) X.2.2.1 X.2.2.2.1 dJ7_getBytes_32 rfl k) ?_
    refine a_aload_n (pc := 33) X dJ7_getBytes_33 rfl hl 1 rfl ?_
    refine a_iload_n (pc := 34) X dJ7_getBytes_34 rfl hl 2 rfl ?_
    refine a_aload_n (pc := 35) X dJ7_getBytes_35 rfl hl 0 rfl ?_
    refine a_get (pc := 36) (φ := 3400) pR_t X Z.1.2.1 (gw X.1 X.2.1 q775) (fun _ q => q) (by decide) dJ7_getBytes_36 hf (fun x36 hf => ?_)
    refine a_arraylength (pc := 39) X dJ7_getBytes_39 hf (fun x39 hf => ?_)
    refine a_callb (pc := 40) (rs := []) (avs := [vR x29, vI (0 : Int32), vR v1, vI v2, vI x39]) Z.1 (w_J21_inflate GA x29 (0 : Int32) v1 v2 x39) (Or.inl rfl) q643 q103 (by decide) (by decide) dJ7_getBytes_40 hl.1 (Nat.le_of_ble_eq_true rfl) hf (ct_S X (Or.inl rfl) q643 q103 q661 q642 hy_J21_inflate np_J21_inflate rfl dJ7_getBytes_40) (fun q h he hX => a_out (unc_of Z.2.1 rfl) Z.2.2.2.1 he hX) (fun _ h hf => ?kk40)
    refine AW.eq (g2 := F0 m 43 ls []) rfl ?_
    exact a_return X Z.2.2.1 Z.2.2.2.1 dJ7_getBytes_43 hf
theorem np_J5_putStringAt : npar yJ5_putStringAt.desc 2 := by unfold npar; decide +kernel
theorem hy_J5_putStringAt : yJ5_putStringAt.cls ≠ "java/lang/invoke/MethodHandle" ∧ yJ5_putStringAt.cls ≠ "java/lang/invoke/VarHandle" := by decide +kernel
theorem w_J5_putStringAt (GA : GA l s0 a0 K lam) (v0 : Option Nat) (v1 : Int32) (v2 : Option Nat) : AMet l s0 K lam yJ5_putStringAt (Cond.code yJ5_putStringAt cJ5_putStringAt (3 : Nat) (Option.none : Option ClassFile.FieldType)) 2 71 [vR v0, vI v1, vR v2] oV (f_J5_putStringAt K v0 v1 v2) := by
  refine AMet.of GA.1 (plainFor_of_name (by decide +kernel)) (Nat.le_of_ble_eq_true rfl) ?_
  intro b r hf p e s m args below meth c X hr hlk hnm hnd ht ls hl
  have Z : WZ l s0 a0 K p s m c cJ5_putStringAt yJ5_putStringAt.cls 3 b { frames := 2, cells := K 0 - aX b, slots := K 1 - aW b, locals := 71 } 2 71 meth [] none yJ5_putStringAt := ⟨⟨X, GA.2.1, GA.2.2.1, rfl, rfl, Nat.le_refl _, Nat.le_refl _⟩, tab_nil ht, hr, hlk, hnm, hnd⟩
  unfold f_J5_putStringAt at hf
  clear hr hlk hnm hnd ht
  refine a_aload_n (pc := 0) X dJ5_putStringAt_0 rfl hl 0 rfl ?_
  refine a_aload_n (pc := 1) X dJ5_putStringAt_1 rfl hl 2 rfl ?_
  obtain ⟨a2, rfl, ⟨hk, hf⟩ | ⟨-, hf⟩⟩ := dv_some hf
  rotate_left
  · exact fl_none hf
  refine a_callb (pc := 2) (rs := []) (avs := [vR (some a2), vR v2]) Z.1 (w_J5_inflateIfNeededFor GA (some a2) v2) (Or.inl rfl) q635 q82 (by decide) (by decide) dJ5_putStringAt_2 hl.1 (Nat.le_of_ble_eq_true rfl) hf (ct_Vp hk ⟨by decide, by decide⟩ X (Or.inl rfl) q635 q632 q634 q633 q591 rfl hy_J5_inflateIfNeededFor np_J5_inflateIfNeededFor rfl dJ5_putStringAt_2) (fun q h he hX => a_out (unc_of Z.2.1 rfl) Z.2.2.2.1 he hX) (fun _ h hf => ?kk2)
  refine AW.eq (g2 := F0 m 5 ls []) rfl ?_
  refine a_aload_n (pc := 5) X dJ5_putStringAt_5 rfl hl 2 rfl ?_
  refine a_aload_n (pc := 6) X dJ5_putStringAt_6 rfl hl 0 rfl ?_
  refine a_get (pc := 7) (φ := 3500) pR_t X Z.1.2.1 (gw X.1 X.2.1 q293) (fun _ q => q) (by decide) dJ5_putStringAt_7 hf (fun x7 hf => ?_)
  refine a_iload_n (pc := 10) X dJ5_putStringAt_10 rfl hl 1 rfl ?_
  refine a_aload_n (pc := 11) X dJ5_putStringAt_11 rfl hl 0 rfl ?_
  refine a_get (pc := 12) (φ := 3501) pI_t X Z.1.2.1 (gw X.1 X.2.1 q294) (fun _ q => q) (by decide) dJ5_putStringAt_12 hf (fun x12 hf => ?_)
  obtain ⟨a15, rfl, ⟨hk, hf⟩ | ⟨-, hf⟩⟩ := dv_some hf
  rotate_left
  · exact fl_none hf
  refine a_callb (pc := 15) (rs := []) (avs := [vR (some a15), vR x7, vI v1, vI x12]) Z.1 (w_J7_getBytes GA (some a15) x7 v1 x12) (Or.inl rfl) q659 q84 (by decide) (by decide) dJ5_putStringAt_15 hl.1 (Nat.le_of_ble_eq_true rfl) hf (ct_V hk ⟨by decide, by decide⟩ X (Or.inl rfl) q659 q656 q657 q658 hy_J7_getBytes np_J7_getBytes rfl dJ5_putStringAt_15) (fun q h he hX => a_out (unc_of Z.2.1 rfl) Z.2.2.2.1 he hX) (fun _ h hf => ?kk15)
  refine AW.eq (g2 := F0 m 18 ls []) rfl ?_
  exact a_return X Z.2.2.1 Z.2.2.2.1 dJ5_putStringAt_18 hf
theorem np_J5_append : npar yJ5_append.desc 1 := by unfold npar; decide +kernel
theorem hy_J5_append : yJ5_append.cls ≠ "java/lang/invoke/MethodHandle" ∧ yJ5_append.cls ≠ "java/lang/invoke/VarHandle" := by decide +kernel
theorem w_J5_append (GA : GA l s0 a0 K lam) (v0 : Option Nat) (v1 : Option Nat) : AMet l s0 K lam yJ5_append (Cond.code yJ5_append cJ5_append (3 : Nat) (Option.some (ClassFile.FieldType.object "java/lang/AbstractStringBuilder"))) 4 99 [vR v0, vR v1] oR (f_J5_append K v0 v1) := by
  refine AMet.of GA.1 (plainFor_of_name (by decide +kernel)) (Nat.le_of_ble_eq_true rfl) ?_
  intro b r hf p e s m args below meth c X hr hlk hnm hnd ht ls hl
  have Z : WZ l s0 a0 K p s m c cJ5_append yJ5_append.cls 3 b { frames := 4, cells := K 0 - aX b, slots := K 1 - aW b, locals := 99 } 4 99 meth [] (some (.object "java/lang/AbstractStringBuilder")) yJ5_append := ⟨⟨X, GA.2.1, GA.2.2.1, rfl, rfl, Nat.le_refl _, Nat.le_refl _⟩, tab_nil ht, hr, hlk, hnm, hnd⟩
  unfold f_J5_append at hf
  clear hr hlk hnm hnd ht
  refine a_aload_n (pc := 0) X dJ5_append_0 rfl hl 1 rfl ?_
  refine a_ifnonnull (pc := 1) (tgt := 9) X dJ5_append_1 rfl (fun c => ?_) (fun c => ?_)
  · have hf := ite_f c hf
    refine a_aload_n (pc := 9) X dJ5_append_9 rfl hl 1 rfl ?_
    obtain ⟨a10, rfl, ⟨hk, hf⟩ | ⟨-, hf⟩⟩ := dv_some hf
    rotate_left
    · exact fl_none hf
    refine a_callb (pc := 10) (rs := []) (avs := [vR (some a10)]) Z.1 (w_J7_length GA (some a10)) (Or.inl rfl) q622 q84 (by decide) (by decide) dJ5_append_10 hl.1 (Nat.le_of_ble_eq_true rfl) hf (ct_V hk ⟨by decide, by decide⟩ X (Or.inl rfl) q622 q619 q620 q621 hy_J7_length np_J7_length rfl dJ5_append_10) (fun q h he hX => a_out (unc_of Z.2.1 rfl) Z.2.2.2.1 he hX) (fun x10 h hf => ?kk10)
    refine AW.eq (g2 := F0 m 13 ls [.int x10]) rfl ?_
    refine a_istore_n (pc := 13) X dJ5_append_13 rfl hl (by decide) (lv' := [(2, vI x10), (0, vR v0), (1, vR (some a10))]) rfl (fun ls hl => ?_)
    refine a_aload_n (pc := 14) X dJ5_append_14 rfl hl 1 rfl ?_
    refine a_aload_n (pc := 15) X dJ5_append_15 rfl hl 1 rfl ?_
    refine a_get (pc := 16) (φ := 3503) pI_t X Z.1.2.1 (gw X.1 X.2.1 q297) (fun _ q => q) (by decide) dJ5_append_16 hf (fun x16 hf => ?_)
    refine a_iload_n (pc := 19) X dJ5_append_19 rfl hl 0 rfl ?_
    refine AW.lift (fun _ _ _ _ k => lv_iadd (pc := 20) X.2.2.1 X.2.2.2.1 dJ5_append_20 k) ?_
    obtain ⟨a21, rfl, ⟨hk, hf⟩ | ⟨-, hf⟩⟩ := dv_some hf
    rotate_left
    · exact fl_none hf
    refine a_callb (pc := 21) (rs := []) (avs := [vR (some a21), vI (x16 + x10)]) Z.1 (w_J5_ensureCapacityInternal GA (some a21) (x16 + x10)) (Or.inl rfl) q556 q82 (by decide) (by decide) dJ5_append_21 hl.1 (Nat.le_of_ble_eq_true rfl) hf (ct_Vp hk ⟨by decide, by decide⟩ X (Or.inl rfl) q556 q553 q555 q554 q591 rfl hy_J5_ensureCapacityInternal np_J5_ensureCapacityInternal rfl dJ5_append_21) (fun q h he hX => a_out (unc_of Z.2.1 rfl) Z.2.2.2.1 he hX) (fun _ h hf => ?kk21)
    refine AW.eq (g2 := F0 m 24 ls []) rfl ?_
    refine a_aload_n (pc := 24) X dJ5_append_24 rfl hl 1 rfl ?_
    refine a_aload_n (pc := 25) X dJ5_append_25 rfl hl 1 rfl ?_
    refine a_get (pc := 26) (φ := 3503) pI_t X Z.1.2.1 (gw X.1 X.2.1 q297) (fun _ q => q) (by decide) dJ5_append_26 hf (fun x26 hf => ?_)
    refine a_aload_n (pc := 29) X dJ5_append_29 rfl hl 2 rfl ?_
    rcases dv_someS hf with ⟨hk, hf⟩ | ⟨-, hf⟩
    rotate_left
    · exact fl_none hf
    refine a_callb (pc := 30) (rs := []) (avs := [vR (some a21), vI x26, vR (some a10)]) Z.1 (w_J5_putStringAt GA (some a21) x26 (some a10)) (Or.inl rfl) q631 q82 (by decide) (by decide) dJ5_append_30 hl.1 (Nat.le_of_ble_eq_true rfl) hf (ct_Vp hk ⟨by decide, by decide⟩ X (Or.inl rfl) q631 q628 q630 q629 q591 rfl hy_J5_putStringAt np_J5_putStringAt rfl dJ5_append_30) (fun q h he hX => a_out (unc_of Z.2.1 rfl) Z.2.2.2.1 he hX) (fun _ h hf => ?kk30)
    refine AW.eq (g2 := F0 m 33 ls []) rfl ?_
    refine a_aload_n (pc := 33) X dJ5_append_33 rfl hl 1 rfl ?_
    refine AW.lift (fun _ _ _ _ k => lv_dup (pc := 34) X.2.2.1 X.2.2.2.1 dJ5_append_34 (cat_rf _) k) ?_
    refine a_get (pc := 35) (φ := 3503) pI_t X Z.1.2.1 (gw X.1 X.2.1 q297) (fun _ q => q) (by decide) dJ5_append_35 hf (fun x35 hf => ?_)
    refine a_iload_n (pc := 38) X dJ5_append_38 rfl hl 0 rfl ?_
    refine AW.lift (fun _ _ _ _ k => lv_iadd (pc := 39) X.2.2.1 X.2.2.2.1 dJ5_append_39 k) ?_
    refine a_put (pc := 40) (φ := 3503) X Z.1.2.1 Z.1.2.2.1 (gw X.1 X.2.1 q297) (fun _ q => q) (by decide) rfl rfl dJ5_append_40 hf (fun h hf => ?_)
    refine a_aload_n (pc := 43) X dJ5_append_43 rfl hl 1 rfl ?_
    exact a_areturn X Z.2.2.1 (Or.inl ⟨_, rfl⟩) Z.2.2.2.1 dJ5_append_44 hf
  · have hf := ite_t c hf
    refine a_aload_n (pc := 4) X dJ5_append_4 rfl hl 0 rfl ?_
    exact fl_no hf
theorem np_J6_append : npar yJ6_append.desc 1 := by unfold npar; decide +kernel
theorem hy_J6_append : yJ6_append.cls ≠ "java/lang/invoke/MethodHandle" ∧ yJ6_append.cls ≠ "java/lang/invoke/VarHandle" := by decide +kernel
theorem w_J6_append (GA : GA l s0 a0 K lam) (v0 : Option Nat) (v1 : Option Nat) : AMet l s0 K lam yJ6_append (Cond.code yJ6_append cJ6_append (2 : Nat) (Option.some (ClassFile.FieldType.object "java/lang/StringBuilder"))) 5 121 [vR v0, vR v1] oR (f_J6_append K v0 v1) := by
  refine AMet.of GA.1 (plainFor_of_name (by decide +kernel)) (Nat.le_of_ble_eq_true rfl) ?_
  intro b r hf p e s m args below meth c X hr hlk hnm hnd ht ls hl
  have Z : WZ l s0 a0 K p s m c cJ6_append yJ6_append.cls 2 b { frames := 5, cells := K 0 - aX b, slots := K 1 - aW b, locals := 121 } 5 121 meth [] (some (.object "java/lang/StringBuilder")) yJ6_append := ⟨⟨X, GA.2.1, GA.2.2.1, rfl, rfl, Nat.le_refl _, Nat.le_refl _⟩, tab_nil ht, hr, hlk, hnm, hnd⟩
  unfold f_J6_append at hf
  clear hr hlk hnm hnd ht
  refine a_aload_n (pc := 0) X dJ6_append_0 rfl hl 0 rfl ?_
  refine a_aload_n (pc := 1) X dJ6_append_1 rfl hl 1 rfl ?_
  obtain ⟨a2, rfl, ⟨hk, hf⟩ | ⟨-, hf⟩⟩ := dv_some hf
  rotate_left
  · exact fl_none hf
  refine a_callb (pc := 2) (rs := []) (avs := [vR (some a2), vR v1]) Z.1 (w_J5_append GA (some a2) v1) (Or.inl rfl) q548 q82 (by decide) (by decide) dJ6_append_2 hl.1 (Nat.le_of_ble_eq_true rfl) hf (ct_P hk ⟨by decide, by decide⟩ X (Or.inl rfl) q548 q546 q3472 q547 q306 (by decide) np_J5_append rfl dJ6_append_2) (fun q h he hX => a_out (unc_of Z.2.1 rfl) Z.2.2.2.1 he hX) (fun x2 h hf => ?kk2)
  refine AW.eq (g2 := F0 m 5 ls [va_rf x2]) rfl ?_
  refine AW.lift (fun _ _ _ _ k => lv_pop (pc := 5) X.2.2.1 X.2.2.2.1 dJ6_append_5 (cat_rf _) k) ?_
  refine a_aload_n (pc := 6) X dJ6_append_6 rfl hl 0 rfl ?_
  exact a_areturn X Z.2.2.1 (Or.inl ⟨_, rfl⟩) Z.2.2.2.1 dJ6_append_7 hf
theorem np_J5_length : npar yJ5_length.desc 0 := by unfold npar; decide +kernel
theorem hy_J5_length : yJ5_length.cls ≠ "java/lang/invoke/MethodHandle" ∧ yJ5_length.cls ≠ "java/lang/invoke/VarHandle" := by decide +kernel
theorem w_J5_length (GA : GA l s0 a0 K lam) (v0 : Option Nat) : AMet l s0 K lam yJ5_length (Cond.code yJ5_length cJ5_length (1 : Nat) (Option.some ClassFile.FieldType.int)) 0 0 [vR v0] oI (f_J5_length K v0) := by
  refine AMet.of GA.1 (plainFor_of_name (by decide +kernel)) (Nat.le_of_ble_eq_true rfl) ?_
  intro b r hf p e s m args below meth c X hr hlk hnm hnd ht ls hl
  have Z : WZ l s0 a0 K p s m c cJ5_length yJ5_length.cls 1 b { frames := 0, cells := K 0 - aX b, slots := K 1 - aW b, locals := 0 } 0 0 meth [] (some (.int)) yJ5_length := ⟨⟨X, GA.2.1, GA.2.2.1, rfl, rfl, Nat.le_refl _, Nat.le_refl _⟩, tab_nil ht, hr, hlk, hnm, hnd⟩
  unfold f_J5_length at hf
  clear hr hlk hnm hnd ht
  refine a_aload_n (pc := 0) X dJ5_length_0 rfl hl 0 rfl ?_
  refine a_get (pc := 1) (φ := 3503) pI_t X Z.1.2.1 (gw X.1 X.2.1 q297) (fun _ q => q) (by decide) dJ5_length_1 hf (fun x1 hf => ?_)
  exact a_ireturn X Z.2.2.1 Z.2.2.2.1 dJ5_length_4 hf
theorem np_J6_length : npar yJ6_length.desc 0 := by unfold npar; decide +kernel
theorem hy_J6_length : yJ6_length.cls ≠ "java/lang/invoke/MethodHandle" ∧ yJ6_length.cls ≠ "java/lang/invoke/VarHandle" := by decide +kernel
theorem w_J6_length (GA : GA l s0 a0 K lam) (v0 : Option Nat) : AMet l s0 K lam yJ6_length (Cond.code yJ6_length cJ6_length (1 : Nat) (Option.some ClassFile.FieldType.int)) 1 20 [vR v0] oI (f_J6_length K v0) := by
  refine AMet.of GA.1 (plainFor_of_name (by decide +kernel)) (Nat.le_of_ble_eq_true rfl) ?_
  intro b r hf p e s m args below meth c X hr hlk hnm hnd ht ls hl
  have Z : WZ l s0 a0 K p s m c cJ6_length yJ6_length.cls 1 b { frames := 1, cells := K 0 - aX b, slots := K 1 - aW b, locals := 20 } 1 20 meth [] (some (.int)) yJ6_length := ⟨⟨X, GA.2.1, GA.2.2.1, rfl, rfl, Nat.le_refl _, Nat.le_refl _⟩, tab_nil ht, hr, hlk, hnm, hnd⟩
  unfold f_J6_length at hf
  clear hr hlk hnm hnd ht
  refine a_aload_n (pc := 0) X dJ6_length_0 rfl hl 0 rfl ?_
  obtain ⟨a1, rfl, ⟨hk, hf⟩ | ⟨-, hf⟩⟩ := dv_some hf
  rotate_left
  · exact fl_none hf
  refine a_callb (pc := 1) (rs := []) (avs := [vR (some a1)]) Z.1 (w_J5_length GA (some a1)) (Or.inl rfl) q722 q82 (by decide) (by decide) dJ6_length_1 hl.1 (Nat.le_of_ble_eq_true rfl) hf (ct_P hk ⟨by decide, by decide⟩ X (Or.inl rfl) q722 q721 q717 q716 q306 (by decide) np_J5_length rfl dJ6_length_1) (fun q h he hX => a_out (unc_of Z.2.1 rfl) Z.2.2.2.1 he hX) (fun x1 h hf => ?kk1)
  refine AW.eq (g2 := F0 m 4 ls [.int x1]) rfl ?_
  exact a_ireturn X Z.2.2.1 Z.2.2.2.1 dJ6_length_4 hf
theorem w_X1_tell_j140 {r : Except Nat (Int32) × AH} (GA : GA l s0 a0 K lam) (Z : WZ l s0 a0 K p s m c cX1_tell yX1_tell.cls 5 b R 10 441 meth [] (some (.int)) yX1_tell) (v0 : Option Nat) (t0 : Option Nat) (t1 : Option Nat)  {h : AH} {ls : Array Slot} (hl : LV ls 5 [(0, vR v0)]) (hf : f_X1_tell_j140 K v0 t0 t1 h = some r) : AW s0 K lam p l e R s m args below meth c (AQ s0 K lam below oI b r s) b h (F0 m 140 ls [va_rf t0, va_rf t1]) := by
  unfold f_X1_tell_j140 at hf
  have X := Z.1.1
  obtain ⟨a140, rfl, ⟨hk, hf⟩ | ⟨-, hf⟩⟩ := dv_some hf
  rotate_left
  · exact fl_none hf
  refine a_callb (pc := 140) (rs := []) (avs := [vR (some a140), vR t0]) Z.1 (w_J6_append GA (some a140) t0) (Or.inl rfl) q545 q83 (by decide) (by decide) dX1_tell_140 hl.1 (Nat.le_of_ble_eq_true rfl) hf (ct_V hk ⟨by decide, by decide⟩ X (Or.inl rfl) q545 q2566 q543 q544 hy_J6_append np_J6_append rfl dX1_tell_140) (fun q h he hX => a_out (unc_of Z.2.1 rfl) Z.2.2.2.1 he hX) (fun x140 h hf => ?kk140)
  refine AW.eq (g2 := F0 m 143 ls [va_rf x140]) rfl ?_
  refine AW.lift (fun _ _ _ _ k => lv_pop (pc := 143) X.2.2.1 X.2.2.2.1 dX1_tell_143 (cat_rf _) k) ?_
  refine a_aload_n (pc := 144) X dX1_tell_144 rfl hl 0 rfl ?_
  refine a_get (pc := 145) (φ := 204) pR_t X Z.1.2.1 (gw X.1 X.2.1 q313) (fun _ q => q) (by decide) dX1_tell_145 hf (fun x145 hf => ?_)
  obtain ⟨a148, rfl, ⟨hk, hf⟩ | ⟨-, hf⟩⟩ := dv_some hf
  rotate_left
  · exact fl_none hf
  refine a_callb (pc := 148) (rs := []) (avs := [vR (some a148)]) Z.1 (w_J6_length GA (some a148)) (Or.inl rfl) q720 q83 (by decide) (by decide) dX1_tell_148 hl.1 (Nat.le_of_ble_eq_true rfl) hf (ct_V hk ⟨by decide, by decide⟩ X (Or.inl rfl) q720 q2567 q719 q3491 hy_J6_length np_J6_length rfl dX1_tell_148) (fun q h he hX => a_out (unc_of Z.2.1 rfl) Z.2.2.2.1 he hX) (fun x148 h hf => ?kk148)
  refine AW.eq (g2 := F0 m 151 ls [.int x148]) rfl ?_
  exact a_ireturn X Z.2.2.1 Z.2.2.2.1 dX1_tell_151 hf
theorem w_X1_tell_j120 {r : Except Nat (Int32) × AH} (GA : GA l s0 a0 K lam) (Z : WZ l s0 a0 K p s m c cX1_tell yX1_tell.cls 5 b R 10 441 meth [] (some (.int)) yX1_tell) (v0 : Option Nat) (v2 : Option Nat)   {h : AH} {ls : Array Slot} (hl : LV ls 5 [(0, vR v0), (2, vR v2)]) (hf : f_X1_tell_j120 K v0 v2 h = some r) : AW s0 K lam p l e R s m args below meth c (AQ s0 K lam below oI b r s) b h (F0 m 120 ls []) := by
  unfold f_X1_tell_j120 at hf
  have X := Z.1.1
  refine a_aload_n (pc := 120) X dX1_tell_120 rfl hl 0 rfl ?_
  refine a_get (pc := 121) (φ := 204) pR_t X Z.1.2.1 (gw X.1 X.2.1 q313) (fun _ q => q) (by decide) dX1_tell_121 hf (fun x121 hf => ?_)
  refine a_aload_n (pc := 124) X dX1_tell_124 rfl hl 1 rfl ?_
  refine a_getN (pc := 125) (φ := 401) pI_t X Z.1.2.1 (gnF X.1 X.2.1 q818) (fun _ q => q) (by decide) dX1_tell_125 hf (fun x125 hf => ?_)
  refine AW.lift2 (fun _ _ _ _ k1 k2 => lv_if_eq (pc := 128) (tgt := 137) X.2.2.1 X.2.2.2.1 dX1_tell_128 rfl k1 k2) (fun c => ?_) (fun c => ?_)
  · have hf := ite_t c hf
    refine a_ldcSw (pc := 137) X (vk_R.warm X.2.1 (sr_H_313 GA)) dX1_tell_137 ?_
    exact w_X1_tell_j140 GA Z v0 (some (K 13)) x121  (hl.sub [0] rfl) hf
  · have hf := ite_f c hf
    refine a_ldcSw (pc := 131) X (vk_R.warm X.2.1 (sr_H_311 GA)) dX1_tell_131 ?_
    refine AW.lift (fun _ _ _ _ k => lv_goto (pc := 134) (tgt := 140) X.2.2.1 X.2.2.2.1 dX1_tell_134 rfl k) ?_
    exact w_X1_tell_j140 GA Z v0 (some (K 12)) x121  (hl.sub [0] rfl) hf
theorem w_X1_tell_j117 {r : Except Nat (Int32) × AH} (GA : GA l s0 a0 K lam) (Z : WZ l s0 a0 K p s m c cX1_tell yX1_tell.cls 5 b R 10 441 meth [] (some (.int)) yX1_tell) (v0 : Option Nat) (v1 : Int32) (v2 : Option Nat) (v3 : Option Nat)  (rc70 : AM (Int32)) (hrc70 : ∀  (h : AH) (ls : Array Slot), LV ls 5 [(0, vR v0), (1, vI v1), (2, vR v2), (3, vR v3)] → rc70 h = some r → AW s0 K lam p l e R s m args below meth c (AQ s0 K lam below oI b r s) b h (F0 m 70 ls [])) {h : AH} {ls : Array Slot} (hl : LV ls 5 [(0, vR v0), (1, vI v1), (2, vR v2), (3, vR v3)]) (hf : f_X1_tell_j117 K rc70 v0 v1 v2 v3 h = some r) : AW s0 K lam p l e R s m args below meth c (AQ s0 K lam below oI b r s) b h (F0 m 117 ls []) := by
  unfold f_X1_tell_j117 at hf
  have X := Z.1.1
  refine AW.lift (fun _ _ _ _ k => lv_goto (pc := 117) (tgt := 70) X.2.2.1 X.2.2.2.1 dX1_tell_117 rfl k) ?_
  exact hrc70  _ _ (hl.sub [0, 1, 2, 3] rfl) hf
theorem w_X1_tell_b70 {r : Except Nat (Int32) × AH} (GA : GA l s0 a0 K lam) (Z : WZ l s0 a0 K p s m c cX1_tell yX1_tell.cls 5 b R 10 441 meth [] (some (.int)) yX1_tell) (v0 : Option Nat) (v1 : Int32) (v2 : Option Nat) (v3 : Option Nat)  (rc70 : AM (Int32)) (hrc70 : ∀  (h : AH) (ls : Array Slot), LV ls 5 [(0, vR v0), (1, vI v1), (2, vR v2), (3, vR v3)] → rc70 h = some r → AW s0 K lam p l e R s m args below meth c (AQ s0 K lam below oI b r s) b h (F0 m 70 ls [])) {h : AH} {ls : Array Slot} (hl : LV ls 5 [(0, vR v0), (1, vI v1), (2, vR v2), (3, vR v3)]) (hf : f_X1_tell_b70 K rc70 v0 v1 v2 v3 h = some r) : AW s0 K lam p l e R s m args below meth c (AQ s0 K lam below oI b r s) b h (F0 m 70 ls []) := by
  unfold f_X1_tell_b70 at hf
  have X := Z.1.1
  refine a_aload_n (pc := 70) X dX1_tell_70 rfl hl 3 rfl ?_
  obtain ⟨a71, rfl, ⟨hk, hf⟩ | ⟨-, hf⟩⟩ := dv_some hf
  rotate_left
  · exact fl_none hf
  refine a_callb (pc := 71) (rs := []) (avs := [vR (some a71)]) Z.1 (w_J14_hasNext GA (some a71)) (Or.inl rfl) q376 q96 (by decide) (by decide) dX1_tell_71 hl.1 (Nat.le_of_ble_eq_true rfl) hf (ct_F (x := ({ cls := "java/util/Iterator", name := "hasNext", desc := "()Z" } : MethodName)) hk ⟨by decide, by decide⟩ X (Or.inl rfl) q376 q2560 (gf X.1 X.2.1 q370 rfl) (gf X.1 X.2.1 q369 rfl) (gf X.1 X.2.1 q375 rfl) (gf X.1 X.2.1 q373 rfl) (gf X.1 X.2.1 q371 rfl) q374 q372 ⟨by decide, by decide⟩ np_J14_hasNext rfl dX1_tell_71) (fun q h he hX => a_out (unc_of Z.2.1 rfl) Z.2.2.2.1 he hX) (fun x71 h hf => ?kk71)
  refine AW.eq (g2 := F0 m 76 ls [.int x71]) rfl ?_
  refine AW.lift2 (fun _ _ _ _ k1 k2 => lv_if_eq (pc := 76) (tgt := 120) X.2.2.1 X.2.2.2.1 dX1_tell_76 rfl k1 k2) (fun c => ?_) (fun c => ?_)
  · have hf := ite_t c hf
    exact w_X1_tell_j120 GA Z v0 v2   (hl.sub [0, 2] rfl) hf
  · have hf := ite_f c hf
    refine a_aload_n (pc := 79) X dX1_tell_79 rfl hl 3 rfl ?_
    rcases dv_someS hf with ⟨hk, hf⟩ | ⟨-, hf⟩
    rotate_left
    · exact fl_none hf
    refine a_callb (pc := 80) (rs := []) (avs := [vR (some a71)]) Z.1 (w_J14_next GA (some a71)) (Or.inl rfl) q397 q96 (by decide) (by decide) dX1_tell_80 hl.1 (Nat.le_of_ble_eq_true rfl) hf (ct_F (x := ({ cls := "java/util/Iterator", name := "next", desc := "()Ljava/lang/Object;" } : MethodName)) hk ⟨by decide, by decide⟩ X (Or.inl rfl) q397 q2562 (gf X.1 X.2.1 q392 rfl) (gf X.1 X.2.1 q391 rfl) (gf X.1 X.2.1 q396 rfl) (gf X.1 X.2.1 q394 rfl) (gf X.1 X.2.1 q371 rfl) q395 q393 ⟨by decide, by decide⟩ np_J14_next rfl dX1_tell_80) (fun q h he hX => a_out (unc_of Z.2.1 rfl) Z.2.2.2.1 he hX) (fun x80 h hf => ?kk80)
    refine AW.eq (g2 := F0 m 85 ls [va_rf x80]) rfl ?_
    refine a_checkcast (pc := 85) X (gw X.1 X.2.1 q2186) (cs_JumpHall_Jumper GA) dX1_tell_85 hf (fun hf => ?_)
    refine a_astore (pc := 88) X dX1_tell_88 hl (by decide) (lv' := [(4, vR x80), (0, vR v0), (1, vI v1), (2, vR v2), (3, vR (some a71))]) rfl (fun ls hl => ?_)
    refine a_aload (pc := 90) X dX1_tell_90 hl 0 rfl ?_
    refine a_iload_n (pc := 92) X dX1_tell_92 rfl hl 2 rfl ?_
    obtain ⟨a93, rfl, ⟨hk, hf⟩ | ⟨-, hf⟩⟩ := dv_some hf
    rotate_left
    · exact fl_none hf
    refine a_callb (pc := 93) (rs := []) (avs := [vR (some a93), vI v1]) Z.1 (w_X8_isOn GA (some a93) v1) (Or.inl rfl) q1834 q107 (by decide) (by decide) dX1_tell_93 hl.1 (Nat.le_of_ble_eq_true rfl) hf (ct_V hk ⟨by decide, by decide⟩ X (Or.inl rfl) q1834 q1897 q1832 q1833 hy_X8_isOn np_X8_isOn rfl dX1_tell_93) (fun q h he hX => a_out (unc_of Z.2.1 rfl) Z.2.2.2.1 he hX) (fun x93 h hf => ?kk93)
    refine AW.eq (g2 := F0 m 96 ls [.int x93]) rfl ?_
    refine AW.lift2 (fun _ _ _ _ k1 k2 => lv_if_eq (pc := 96) (tgt := 117) X.2.2.1 X.2.2.2.1 dX1_tell_96 rfl k1 k2) (fun c => ?_) (fun c => ?_)
    · have hf := ite_t c hf
      exact w_X1_tell_j117 GA Z v0 v1 v2 (some a71)  rc70 hrc70 (hl.sub [1, 2, 3, 4] rfl) hf
    · have hf := ite_f c hf
      refine a_aload_n (pc := 99) X dX1_tell_99 rfl hl 1 rfl ?_
      refine a_get (pc := 100) (φ := 204) pR_t X Z.1.2.1 (gw X.1 X.2.1 q313) (fun _ q => q) (by decide) dX1_tell_100 hf (fun x100 hf => ?_)
      refine AW.lift (fun _ _ _ _ k => lv_bipush (pc := 103) (v := (124 : Int32)) X.2.2.1 X.2.2.2.1 dX1_tell_103 rfl k) ?_
      obtain ⟨a105, rfl, ⟨hk, hf⟩ | ⟨-, hf⟩⟩ := dv_some hf
      rotate_left
      · exact fl_none hf
      refine a_callb (pc := 105) (rs := []) (avs := [vR (some a105), vI (124 : Int32)]) Z.1 (w_J6_append_3 GA (some a105) (124 : Int32)) (Or.inl rfl) q2541 q83 (by decide) (by decide) dX1_tell_105 hl.1 (Nat.le_of_ble_eq_true rfl) hf (ct_V hk ⟨by decide, by decide⟩ X (Or.inl rfl) q2541 q2538 q2539 q2540 hy_J6_append_3 np_J6_append_3 rfl dX1_tell_105) (fun q h he hX => a_out (unc_of Z.2.1 rfl) Z.2.2.2.1 he hX) (fun x105 h hf => ?kk105)
      refine AW.eq (g2 := F0 m 108 ls [va_rf x105]) rfl ?_
      refine a_aload (pc := 108) X dX1_tell_108 hl 0 rfl ?_
      refine a_getN (pc := 110) (φ := 500) pI_t X Z.1.2.1 (gnF X.1 X.2.1 q912) (fun _ q => q) (by decide) dX1_tell_110 hf (fun x110 hf => ?_)
      obtain ⟨a113, rfl, ⟨hk, hf⟩ | ⟨-, hf⟩⟩ := dv_some hf
      rotate_left
      · exact fl_none hf
      refine a_callb (pc := 113) (rs := []) (avs := [vR (some a113), vI x110]) Z.1 (w_J6_append_2 GA (some a113) x110) (Or.inl rfl) q665 q83 (by decide) (by decide) dX1_tell_113 hl.1 (Nat.le_of_ble_eq_true rfl) hf (ct_V hk ⟨by decide, by decide⟩ X (Or.inl rfl) q665 q2563 q663 q664 hy_J6_append_2 np_J6_append_2 rfl dX1_tell_113) (fun q h he hX => a_out (unc_of Z.2.1 rfl) Z.2.2.2.1 he hX) (fun x113 h hf => ?kk113)
      refine AW.eq (g2 := F0 m 116 ls [va_rf x113]) rfl ?_
      refine AW.lift (fun _ _ _ _ k => lv_pop (pc := 116) X.2.2.1 X.2.2.2.1 dX1_tell_116 (cat_rf _) k) ?_
      exact w_X1_tell_j117 GA Z v0 v1 v2 (some a71)  rc70 hrc70 (hl.sub [1, 2, 3, 4] rfl) hf
theorem w_X1_tell_l70 {r : Except Nat (Int32) × AH} (GA : GA l s0 a0 K lam) (Z : WZ l s0 a0 K p s m c cX1_tell yX1_tell.cls 5 b R 10 441 meth [] (some (.int)) yX1_tell) (v0 : Option Nat) (v1 : Int32) (v2 : Option Nat) (v3 : Option Nat)  : ∀ (n : Nat)  (h : AH) (ls : Array Slot), LV ls 5 [(0, vR v0), (1, vI v1), (2, vR v2), (3, vR v3)] → f_X1_tell_l70 K v0 v1 v2 v3 n  h = some r → AW s0 K lam p l e R s m args below meth c (AQ s0 K lam below oI b r s) b h (F0 m 70 ls []) := by
  intro n
  induction n with
  | zero => intro  h ls hl hf; exact fl_no (h := h) hf
  | succ n ih => intro  h ls hl hf; exact w_X1_tell_b70 GA Z v0 v1 v2 v3 (f_X1_tell_l70 K v0 v1 v2 v3 n) ih hl hf
theorem w_X1_tell_j59 {r : Except Nat (Int32) × AH} (GA : GA l s0 a0 K lam) (Z : WZ l s0 a0 K p s m c cX1_tell yX1_tell.cls 5 b R 10 441 meth [] (some (.int)) yX1_tell) (v0 : Option Nat) (v1 : Int32) (v2 : Option Nat)   {h : AH} {ls : Array Slot} (hl : LV ls 5 [(0, vR v0), (1, vI v1), (2, vR v2)]) (hf : f_X1_tell_j59 K v0 v1 v2 h = some r) : AW s0 K lam p l e R s m args below meth c (AQ s0 K lam below oI b r s) b h (F0 m 59 ls []) := by
  unfold f_X1_tell_j59 at hf
  have X := Z.1.1
  refine a_aload_n (pc := 59) X dX1_tell_59 rfl hl 0 rfl ?_
  refine a_get (pc := 60) (φ := 200) pR_t X Z.1.2.1 (gw X.1 X.2.1 q309) (fun _ q => q) (by decide) dX1_tell_60 hf (fun x60 hf => ?_)
  refine a_getN (pc := 63) (φ := 301) pR_t X Z.1.2.1 (gnF X.1 X.2.1 q231) (fun _ q => q) (by decide) dX1_tell_63 hf (fun x63 hf => ?_)
  obtain ⟨a66, rfl, ⟨hk, hf⟩ | ⟨-, hf⟩⟩ := dv_some hf
  rotate_left
  · exact fl_none hf
  refine a_callb (pc := 66) (rs := []) (avs := [vR (some a66)]) Z.1 (w_J2_iterator GA (some a66)) (Or.inl rfl) q347 q78 (by decide) (by decide) dX1_tell_66 hl.1 (Nat.le_of_ble_eq_true rfl) hf (ct_V hk ⟨by decide, by decide⟩ X (Or.inl rfl) q347 q2558 q345 q346 hy_J2_iterator np_J2_iterator rfl dX1_tell_66) (fun q h he hX => a_out (unc_of Z.2.1 rfl) Z.2.2.2.1 he hX) (fun x66 h hf => ?kk66)
  refine AW.eq (g2 := F0 m 69 ls [va_rf x66]) rfl ?_
  refine a_astore_n (pc := 69) X dX1_tell_69 rfl hl (by decide) (lv' := [(3, vR x66), (0, vR v0), (1, vI v1), (2, vR v2)]) rfl (fun ls hl => ?_)
  exact w_X1_tell_l70 GA Z v0 v1 v2 x66  FU  _ _ (hl.sub [1, 2, 3, 0] rfl) hf
theorem w_X1_tell_j49 {r : Except Nat (Int32) × AH} (GA : GA l s0 a0 K lam) (Z : WZ l s0 a0 K p s m c cX1_tell yX1_tell.cls 5 b R 10 441 meth [] (some (.int)) yX1_tell) (v0 : Option Nat) (v1 : Int32) (v2 : Option Nat) (v3 : Int32) (t0 : Int32) (t1 : Option Nat) (rc16 : Int32 → AM (Int32)) (hrc16 : ∀ (v3 : Int32) (h : AH) (ls : Array Slot), LV ls 5 [(0, vR v0), (1, vI v1), (2, vR v2), (3, vI v3)] → rc16 v3 h = some r → AW s0 K lam p l e R s m args below meth c (AQ s0 K lam below oI b r s) b h (F0 m 16 ls [])) {h : AH} {ls : Array Slot} (hl : LV ls 5 [(0, vR v0), (1, vI v1), (2, vR v2), (3, vI v3)]) (hf : f_X1_tell_j49 K rc16 v0 v1 v2 v3 t0 t1 h = some r) : AW s0 K lam p l e R s m args below meth c (AQ s0 K lam below oI b r s) b h (F0 m 49 ls [.int t0, va_rf t1]) := by
  unfold f_X1_tell_j49 at hf
  have X := Z.1.1
  obtain ⟨a49, rfl, ⟨hk, hf⟩ | ⟨-, hf⟩⟩ := dv_some hf
  rotate_left
  · exact fl_none hf
  refine a_callb (pc := 49) (rs := []) (avs := [vR (some a49), vI t0]) Z.1 (w_J6_append_3 GA (some a49) t0) (Or.inl rfl) q2541 q83 (by decide) (by decide) dX1_tell_49 hl.1 (Nat.le_of_ble_eq_true rfl) hf (ct_V hk ⟨by decide, by decide⟩ X (Or.inl rfl) q2541 q2538 q2539 q2540 hy_J6_append_3 np_J6_append_3 rfl dX1_tell_49) (fun q h he hX => a_out (unc_of Z.2.1 rfl) Z.2.2.2.1 he hX) (fun x49 h hf => ?kk49)
  refine AW.eq (g2 := F0 m 52 ls [va_rf x49]) rfl ?_
  refine AW.lift (fun _ _ _ _ k => lv_pop (pc := 52) X.2.2.1 X.2.2.2.1 dX1_tell_52 (cat_rf _) k) ?_
  refine a_iinc (pc := 53) (v := (v3 + (1 : Int32))) X dX1_tell_53 hl (k := 3) rfl rfl (by decide) (lv' := [(3, vI (v3 + (1 : Int32))), (0, vR v0), (1, vI v1), (2, vR v2)]) rfl (fun ls hl => ?_)
  refine AW.lift (fun _ _ _ _ k => lv_goto (pc := 56) (tgt := 16) X.2.2.1 X.2.2.2.1 dX1_tell_56 rfl k) ?_
  exact hrc16 (v3 + (1 : Int32)) _ _ (hl.sub [1, 2, 3, 0] rfl) hf
theorem w_X1_tell_b16 {r : Except Nat (Int32) × AH} (GA : GA l s0 a0 K lam) (Z : WZ l s0 a0 K p s m c cX1_tell yX1_tell.cls 5 b R 10 441 meth [] (some (.int)) yX1_tell) (v0 : Option Nat) (v1 : Int32) (v2 : Option Nat) (v3 : Int32)  (rc16 : Int32 → AM (Int32)) (hrc16 : ∀ (v3 : Int32) (h : AH) (ls : Array Slot), LV ls 5 [(0, vR v0), (1, vI v1), (2, vR v2), (3, vI v3)] → rc16 v3 h = some r → AW s0 K lam p l e R s m args below meth c (AQ s0 K lam below oI b r s) b h (F0 m 16 ls [])) {h : AH} {ls : Array Slot} (hl : LV ls 5 [(0, vR v0), (1, vI v1), (2, vR v2), (3, vI v3)]) (hf : f_X1_tell_b16 K rc16 v0 v1 v2 v3 h = some r) : AW s0 K lam p l e R s m args below meth c (AQ s0 K lam below oI b r s) b h (F0 m 16 ls []) := by
  unfold f_X1_tell_b16 at hf
  have X := Z.1.1
  refine a_iload_n (pc := 16) X dX1_tell_16 rfl hl 3 rfl ?_
  refine AW.lift (fun _ _ _ _ k => lv_bipush (pc := 17) (v := (8 : Int32)) X.2.2.1 X.2.2.2.1 dX1_tell_17 rfl k) ?_
  refine AW.lift2 (fun _ _ _ _ k1 k2 => lv_icmp_ge (pc := 19) (tgt := 59) X.2.2.1 X.2.2.2.1 dX1_tell_19 rfl k1 k2) (fun c => ?_) (fun c => ?_)
  · have hf := ite_t c hf
    exact w_X1_tell_j59 GA Z v0 v1 v2   (hl.sub [0, 1, 2] rfl) hf
  · have hf := ite_f c hf
    refine a_aload_n (pc := 22) X dX1_tell_22 rfl hl 0 rfl ?_
    refine a_get (pc := 23) (φ := 204) pR_t X Z.1.2.1 (gw X.1 X.2.1 q313) (fun _ q => q) (by decide) dX1_tell_23 hf (fun x23 hf => ?_)
    refine a_aload_n (pc := 26) X dX1_tell_26 rfl hl 2 rfl ?_
    refine a_iload_n (pc := 27) X dX1_tell_27 rfl hl 3 rfl ?_
    obtain ⟨a28, rfl, ⟨hk, hf⟩ | ⟨-, hf⟩⟩ := dv_some hf
    rotate_left
    · exact fl_none hf
    refine a_callb (pc := 28) (rs := [vR x23]) (avs := [vR (some a28), vI v3]) Z.1 (w_X7_isBroken GA (some a28) v3) (Or.inl rfl) q1850 q91 (by decide) (by decide) dX1_tell_28 hl.1 (Nat.le_of_ble_eq_true rfl) hf (ct_V hk ⟨by decide, by decide⟩ X (Or.inl rfl) q1850 q2537 q1848 q1849 hy_X7_isBroken np_X7_isBroken rfl dX1_tell_28) (fun q h he hX => a_out (unc_of Z.2.1 rfl) Z.2.2.2.1 he hX) (fun x28 h hf => ?kk28)
    refine AW.eq (g2 := F0 m 31 ls [.int x28, va_rf x23]) rfl ?_
    refine AW.lift2 (fun _ _ _ _ k1 k2 => lv_if_eq (pc := 31) (tgt := 39) X.2.2.1 X.2.2.2.1 dX1_tell_31 rfl k1 k2) (fun c => ?_) (fun c => ?_)
    · have hf := ite_t c hf
      refine AW.lift (fun _ _ _ _ k => lv_bipush (pc := 39) (v := (48 : Int32)) X.2.2.1 X.2.2.2.1 dX1_tell_39 rfl k) ?_
      refine a_aload_n (pc := 41) X dX1_tell_41 rfl hl 2 rfl ?_
      refine a_getN (pc := 42) (φ := 400) pR_t X Z.1.2.1 (gnF X.1 X.2.1 q815) (fun _ q => q) (by decide) dX1_tell_42 hf (fun x42 hf => ?_)
      refine a_iload_n (pc := 45) X dX1_tell_45 rfl hl 3 rfl ?_
      refine a_iaload (pc := 46) X dX1_tell_46 hf (fun x46 hf => ?_)
      refine AW.lift (fun _ _ _ _ k => lv_iadd (pc := 47) X.2.2.1 X.2.2.2.1 dX1_tell_47 k) ?_
      refine AW.lift (fun _ _ _ _ k => lv_i2c (pc := 48) X.2.2.1 X.2.2.2.1 dX1_tell_48 rfl k) ?_
      exact w_X1_tell_j49 GA Z v0 v1 (some a28) v3 ((((48 : Int32) + x46).toUInt32 % 65536).toInt32) x23 rc16 hrc16 (hl.sub [0, 1, 2, 3] rfl) hf
    · have hf := ite_f c hf
      refine AW.lift (fun _ _ _ _ k => lv_bipush (pc := 34) (v := (42 : Int32)) X.2.2.1 X.2.2.2.1 dX1_tell_34 rfl k) ?_
      refine AW.lift (fun _ _ _ _ k => lv_goto (pc := 36) (tgt := 49) X.2.2.1 X.2.2.2.1 dX1_tell_36 rfl k) ?_
      exact w_X1_tell_j49 GA Z v0 v1 (some a28) v3 (42 : Int32) x23 rc16 hrc16 (hl.sub [0, 1, 2, 3] rfl) hf
theorem w_X1_tell_l16 {r : Except Nat (Int32) × AH} (GA : GA l s0 a0 K lam) (Z : WZ l s0 a0 K p s m c cX1_tell yX1_tell.cls 5 b R 10 441 meth [] (some (.int)) yX1_tell) (v0 : Option Nat) (v1 : Int32) (v2 : Option Nat)  : ∀ (n : Nat) (v3 : Int32) (h : AH) (ls : Array Slot), LV ls 5 [(0, vR v0), (1, vI v1), (2, vR v2), (3, vI v3)] → f_X1_tell_l16 K v0 v1 v2 n v3 h = some r → AW s0 K lam p l e R s m args below meth c (AQ s0 K lam below oI b r s) b h (F0 m 16 ls []) := by
  intro n
  induction n with
  | zero => intro v3 h ls hl hf; exact fl_no (h := h) hf
  | succ n ih => intro v3 h ls hl hf; exact w_X1_tell_b16 GA Z v0 v1 v2 v3 (f_X1_tell_l16 K v0 v1 v2 n) ih hl hf
theorem np_X1_tell : npar yX1_tell.desc 1 := by unfold npar; decide +kernel
theorem hy_X1_tell : yX1_tell.cls ≠ "java/lang/invoke/MethodHandle" ∧ yX1_tell.cls ≠ "java/lang/invoke/VarHandle" := by decide +kernel
theorem w_X1_tell (GA : GA l s0 a0 K lam) (v0 : Option Nat) (v1 : Int32) : AMet l s0 K lam yX1_tell (Cond.code yX1_tell cX1_tell (5 : Nat) (Option.some ClassFile.FieldType.int)) 10 441 [vR v0, vI v1] oI (f_X1_tell K v0 v1) := by
  refine AMet.of GA.1 (plainFor_of_name (by decide +kernel)) (Nat.le_of_ble_eq_true rfl) ?_
  intro b r hf p e s m args below meth c X hr hlk hnm hnd ht ls hl
  have Z : WZ l s0 a0 K p s m c cX1_tell yX1_tell.cls 5 b { frames := 10, cells := K 0 - aX b, slots := K 1 - aW b, locals := 441 } 10 441 meth [] (some (.int)) yX1_tell := ⟨⟨X, GA.2.1, GA.2.2.1, rfl, rfl, Nat.le_refl _, Nat.le_refl _⟩, tab_nil ht, hr, hlk, hnm, hnd⟩
  unfold f_X1_tell at hf
  clear hr hlk hnm hnd ht
  refine a_aload_n (pc := 0) X dX1_tell_0 rfl hl 0 rfl ?_
  refine a_iload_n (pc := 1) X dX1_tell_1 rfl hl 1 rfl ?_
  obtain ⟨a2, rfl, ⟨hk, hf⟩ | ⟨-, hf⟩⟩ := dv_some hf
  rotate_left
  · exact fl_none hf
  refine a_callb (pc := 2) (rs := []) (avs := [vR (some a2), vI v1]) Z.1 (w_X1_matAt GA (some a2) v1) (Or.inl rfl) q1861 q74 (by decide) (by decide) dX1_tell_2 hl.1 (Nat.le_of_ble_eq_true rfl) hf (ct_V hk ⟨by decide, by decide⟩ X (Or.inl rfl) q1861 q1858 q1860 pv_6 hy_X1_matAt np_X1_matAt rfl dX1_tell_2) (fun q h he hX => a_out (unc_of Z.2.1 rfl) Z.2.2.2.1 he hX) (fun x2 h hf => ?kk2)
  refine AW.eq (g2 := F0 m 5 ls [va_rf x2]) rfl ?_
  refine a_astore_n (pc := 5) X dX1_tell_5 rfl hl (by decide) (lv' := [(2, vR x2), (0, vR (some a2)), (1, vI v1)]) rfl (fun ls hl => ?_)
  refine a_aload_n (pc := 6) X dX1_tell_6 rfl hl 1 rfl ?_
  refine a_get (pc := 7) (φ := 204) pR_t X Z.1.2.1 (gw X.1 X.2.1 q313) (fun _ q => q) (by decide) dX1_tell_7 hf (fun x7 hf => ?_)
  refine AW.lift (fun _ _ _ _ k => lv_iconst (pc := 10) (v := (0 : Int32)) X.2.2.1 X.2.2.2.1 dX1_tell_10 rfl k) ?_
  obtain ⟨a11, rfl, ⟨hk, hf⟩ | ⟨-, hf⟩⟩ := dv_some hf
  rotate_left
  · exact fl_none hf
  refine a_callb (pc := 11) (rs := []) (avs := [vR (some a11), vI (0 : Int32)]) Z.1 (w_J6_setLength GA (some a11) (0 : Int32)) (Or.inl rfl) q2488 q83 (by decide) (by decide) dX1_tell_11 hl.1 (Nat.le_of_ble_eq_true rfl) hf (ct_V hk ⟨by decide, by decide⟩ X (Or.inl rfl) q2488 q2485 q2486 q2487 hy_J6_setLength np_J6_setLength rfl dX1_tell_11) (fun q h he hX => a_out (unc_of Z.2.1 rfl) Z.2.2.2.1 he hX) (fun _ h hf => ?kk11)
  refine AW.eq (g2 := F0 m 14 ls []) rfl ?_
  refine AW.lift (fun _ _ _ _ k => lv_iconst (pc := 14) (v := (0 : Int32)) X.2.2.1 X.2.2.2.1 dX1_tell_14 rfl k) ?_
  refine a_istore_n (pc := 15) X dX1_tell_15 rfl hl (by decide) (lv' := [(3, vI (0 : Int32)), (2, vR x2), (0, vR (some a2)), (1, vI v1)]) rfl (fun ls hl => ?_)
  exact w_X1_tell_l16 GA Z (some a2) v1 x2  FU (0 : Int32) _ _ (hl.sub [2, 3, 1, 0] rfl) hf
theorem np_X0_tell : npar yX0_tell.desc 3 := by unfold npar; decide +kernel
theorem hy_X0_tell : yX0_tell.cls ≠ "java/lang/invoke/MethodHandle" ∧ yX0_tell.cls ≠ "java/lang/invoke/VarHandle" := by decide +kernel
theorem w_X0_tell (GA : GA l s0 a0 K lam) (v0 : Option Nat) (v1 : Int32) (v2 : Option Nat) : AMet l s0 K lam yX0_tell (Cond.codeWith yX0_tell cX0_tell (4 : Nat) (Option.some ClassFile.FieldType.int) [((0 : Nat), (9 : Nat), (12 : Nat), (19 : Nat))]) 11 465 [vR v0, vI v1, vR v2] oI (f_X0_tell K v0 v1 v2) := by
  refine AMet.ofW GA.1 (plainFor_of_name (by decide +kernel)) (Nat.le_of_ble_eq_true rfl) ?_
  intro b r hf p e s m args below meth c X hr hlk hnm hnd ht ls hl
  have Z : WZ l s0 a0 K p s m c cX0_tell yX0_tell.cls 4 b { frames := 11, cells := K 0 - aX b, slots := K 1 - aW b, locals := 465 } 11 465 meth [(0, 9, 12, 19)] (some (.int)) yX0_tell := ⟨⟨X, GA.2.1, GA.2.2.1, rfl, rfl, Nat.le_refl _, Nat.le_refl _⟩, ht, hr, hlk, hnm, hnd⟩
  unfold f_X0_tell at hf
  clear hr hlk hnm hnd ht
  refine a_aload_n (pc := 0) X dX0_tell_0 rfl hl 2 rfl ?_
  refine AW.lift (fun _ _ _ _ k => lv_iconst (pc := 1) (v := (0 : Int32)) X.2.2.1 X.2.2.2.1 dX0_tell_1 rfl k) ?_
  refine a_aload_n (pc := 2) X dX0_tell_2 rfl hl 0 rfl ?_
  refine a_iload_n (pc := 3) X dX0_tell_3 rfl hl 1 rfl ?_
  obtain ⟨a4, rfl, ⟨hk, hf⟩ | ⟨-, hf⟩⟩ := dv_tsome hf
  rotate_left
  · exact fl_tnone hf
  refine a_callt (pc := 4) (rs := [vI (0 : Int32), vR v2]) (avs := [vR (some a4), vI v1]) Z.1 (w_X1_tell GA (some a4) v1) (Or.inl rfl) q2484 q74 (by decide) (by decide) dX0_tell_4 hl.1 (Nat.le_of_ble_eq_true rfl) hf (ct_V hk ⟨by decide, by decide⟩ X (Or.inl rfl) q2484 q2481 q2482 q2483 hy_X1_tell np_X1_tell rfl dX0_tell_4) (fun q h hf hX => ?hx4) (fun x4 h hf => ?kk4)
  case hx4 =>
    rcases ctc_some hf with ⟨hy, hf⟩ | ⟨hn0, hf⟩
    · refine a_catchH (st := 0) (en := 9) (hp := 12) (ct := 19) (pre := []) (suf := []) X hX Z.2.1 rfl (fun z hz => nomatch hz) (by decide) (Or.inr ⟨by decide, _, gw X.1 X.2.1 q1786, (cs_X19 GA) _ hy⟩) (AW.eq (g2 := F0 m 12 ls [va_rf (some q)]) rfl ?_)
      refine a_astore_n (pc := 12) X dX0_tell_12 rfl hl (by decide) (lv' := [(3, vR (some q)), (0, vR (some a4)), (1, vI v1), (2, vR v2)]) rfl (fun ls hl => ?_)
      refine AW.lift (fun _ _ _ _ k => lv_iconst (pc := 13) (v := (1 : Int32)) X.2.2.1 X.2.2.2.1 dX0_tell_13 rfl k) ?_
      exact a_ireturn X Z.2.2.1 Z.2.2.2.1 dX0_tell_14 hf
    · skip
      exact a_outH X Z.2.1 (by intro z hz; simp only [List.mem_cons, List.not_mem_nil, or_false] at hz; rcases hz with rfl <;> first | exact Or.inl (by decide) | exact Or.inr ⟨by decide, _, gw X.1 X.2.1 q1786, (nc_12_13_14_16_17_18_20_21_java_lang_IndexOutOfBoundsException GA _ (by simpa using hn0)).2.2⟩) Z.2.2.2.1 (th_eq hf) hX
  refine AW.eq (g2 := F0 m 7 ls [.int x4, .int (0 : Int32), va_rf v2]) rfl ?_
  refine AW.lift (fun _ _ _ _ k => lv_i2l (pc := 7) X.2.2.1 X.2.2.2.1 dX0_tell_7 rfl k) ?_
  refine a_lastore (pc := 8) X dX0_tell_8 hf (fun h hf => ?_)
  refine AW.lift (fun _ _ _ _ k => lv_goto (pc := 9) (tgt := 15) X.2.2.1 X.2.2.2.1 dX0_tell_9 rfl k) ?_
  refine AW.lift (fun _ _ _ _ k => lv_iconst (pc := 15) (v := (0 : Int32)) X.2.2.1 X.2.2.2.1 dX0_tell_15 rfl k) ?_
  exact a_ireturn X Z.2.2.1 Z.2.2.2.1 dX0_tell_16 hf
theorem np_X4_sign : npar yX4_sign.desc 1 := by unfold npar; decide +kernel
theorem hy_X4_sign : yX4_sign.cls ≠ "java/lang/invoke/MethodHandle" ∧ yX4_sign.cls ≠ "java/lang/invoke/VarHandle" := by decide +kernel
theorem w_X4_sign (GA : GA l s0 a0 K lam) (v0 : Option Nat) (v1 : Int32) : AMet l s0 K lam yX4_sign (Cond.code yX4_sign cX4_sign (2 : Nat) (Option.none : Option ClassFile.FieldType)) 0 0 [vR v0, vI v1] oV (f_X4_sign K v0 v1) := by
  refine AMet.of GA.1 (plainFor_of_name (by decide +kernel)) (Nat.le_of_ble_eq_true rfl) ?_
  intro b r hf p e s m args below meth c X hr hlk hnm hnd ht ls hl
  have Z : WZ l s0 a0 K p s m c cX4_sign yX4_sign.cls 2 b { frames := 0, cells := K 0 - aX b, slots := K 1 - aW b, locals := 0 } 0 0 meth [] none yX4_sign := ⟨⟨X, GA.2.1, GA.2.2.1, rfl, rfl, Nat.le_refl _, Nat.le_refl _⟩, tab_nil ht, hr, hlk, hnm, hnd⟩
  unfold f_X4_sign at hf
  clear hr hlk hnm hnd ht
  refine a_aload_n (pc := 0) X dX4_sign_0 rfl hl 0 rfl ?_
  refine a_get (pc := 1) (φ := 115) pR_t X Z.1.2.1 (gw X.1 X.2.1 q3040) (fun _ q => q) (by decide) dX4_sign_1 hf (fun x1 hf => ?_)
  refine a_aload_n (pc := 4) X dX4_sign_4 rfl hl 0 rfl ?_
  refine a_get (pc := 5) (φ := 116) pI_t X Z.1.2.1 (gw X.1 X.2.1 q3041) (fun _ q => q) (by decide) dX4_sign_5 hf (fun x5 hf => ?_)
  refine a_iload_n (pc := 8) X dX4_sign_8 rfl hl 1 rfl ?_
  refine a_iastore (pc := 9) X dX4_sign_9 hf (fun h hf => ?_)
  refine a_aload_n (pc := 10) X dX4_sign_10 rfl hl 0 rfl ?_
  refine AW.lift (fun _ _ _ _ k => lv_dup (pc := 11) X.2.2.1 X.2.2.2.1 dX4_sign_11 (cat_rf _) k) ?_
  refine a_get (pc := 12) (φ := 116) pI_t X Z.1.2.1 (gw X.1 X.2.1 q3041) (fun _ q => q) (by decide) dX4_sign_12 hf (fun x12 hf => ?_)
  refine AW.lift (fun _ _ _ _ k => lv_iconst (pc := 15) (v := (1 : Int32)) X.2.2.1 X.2.2.2.1 dX4_sign_15 rfl k) ?_
  refine AW.lift (fun _ _ _ _ k => lv_iadd (pc := 16) X.2.2.1 X.2.2.2.1 dX4_sign_16 k) ?_
  refine a_put (pc := 17) (φ := 116) X Z.1.2.1 Z.1.2.2.1 (gw X.1 X.2.1 q3041) (fun _ q => q) (by decide) rfl rfl dX4_sign_17 hf (fun h hf => ?_)
  exact a_return X Z.2.2.1 Z.2.2.2.1 dX4_sign_20 hf
end WK
