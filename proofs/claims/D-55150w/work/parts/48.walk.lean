section WK
variable {l : Launch} {s0 : State} {a0 : Array Value} {K : Nat → Nat} {lam : Nat → ClassId}
variable {p : Program} {e : Env} {R : Room} {s : State} {m : MethodId} {args : Array Value} {below : List Frame} {meth : Method} {c : Code} {b : AH}
theorem np_J13_copyOfRangeByte : npar yJ13_copyOfRangeByte.desc 3 := by unfold npar; decide +kernel
theorem hy_J13_copyOfRangeByte : yJ13_copyOfRangeByte.cls ≠ "java/lang/invoke/MethodHandle" ∧ yJ13_copyOfRangeByte.cls ≠ "java/lang/invoke/VarHandle" := by decide +kernel
theorem w_J13_copyOfRangeByte (GA : GA l s0 a0 K lam) (v0 : Option Nat) (v1 : Int32) (v2 : Int32) : AMet l s0 K lam yJ13_copyOfRangeByte (Cond.code yJ13_copyOfRangeByte cJ13_copyOfRangeByte (5 : Nat) (Option.some (ClassFile.FieldType.array ClassFile.FieldType.byte))) 7 164 [vR v0, vI v1, vI v2] oR (f_J13_copyOfRangeByte K v0 v1 v2) := by
  refine AMet.of GA.1 (plainFor_of_name (by decide +kernel)) (Nat.le_of_ble_eq_true rfl) ?_
  intro b r hf p e s m args below meth c X hr hlk hnm hnd ht ls hl
  have Z : WZ l s0 a0 K p s m c cJ13_copyOfRangeByte yJ13_copyOfRangeByte.cls 5 b { frames := 7, cells := K 0 - aX b, slots := K 1 - aW b, locals := 164 } 7 164 meth [] (some (.array (.byte))) yJ13_copyOfRangeByte := ⟨⟨X, GA.2.1, GA.2.2.1, rfl, rfl, Nat.le_refl _, Nat.le_refl _⟩, tab_nil ht, hr, hlk, hnm, hnd⟩
  unfold f_J13_copyOfRangeByte at hf
  clear hr hlk hnm hnd ht
  refine a_iload_n (pc := 0) X dJ13_copyOfRangeByte_0 rfl hl 1 rfl ?_
  refine a_iload_n (pc := 1) X dJ13_copyOfRangeByte_1 rfl hl 2 rfl ?_
  refine a_callb (pc := 2) (rs := []) (avs := [vI v1, vI v2]) Z.1 (w_J13_checkLength GA v1 v2) (Or.inl rfl) q732 q94 (by decide) (by decide) dJ13_copyOfRangeByte_2 hl.1 (Nat.le_of_ble_eq_true rfl) hf (ct_S X (Or.inl rfl) q732 q94 q730 q731 hy_J13_checkLength np_J13_checkLength rfl dJ13_copyOfRangeByte_2) (fun q h he hX => a_out (unc_of Z.2.1 rfl) Z.2.2.2.1 he hX) (fun _ h hf => ?kk2)
  refine AW.eq (g2 := F0 m 5 ls []) rfl ?_
  refine a_iload_n (pc := 5) X dJ13_copyOfRangeByte_5 rfl hl 2 rfl ?_
  refine a_iload_n (pc := 6) X dJ13_copyOfRangeByte_6 rfl hl 1 rfl ?_
  refine AW.lift (fun _ _ _ _ k => lv_isub (pc := 7) X.2.2.1 X.2.2.2.1 dJ13_copyOfRangeByte_7 k) ?_
  refine a_istore_n (pc := 8) X dJ13_copyOfRangeByte_8 rfl hl (by decide) (lv' := [(3, vI (v2 - v1)), (0, vR v0), (1, vI v1), (2, vI v2)]) rfl (fun ls hl => ?_)
  refine a_iload_n (pc := 9) X dJ13_copyOfRangeByte_9 rfl hl 0 rfl ?_
  refine a_newarray (pc := 10) (t := 1003) (atype := .byte) (by decide) rfl rfl rfl (by decide) (ra_byte GA) X Z.1.2.2.2.1 Z.1.2.2.2.2.1 (gw X.1 X.2.1 q308) dJ13_copyOfRangeByte_10 hf (fun x10 h hf => ?_)
  refine a_astore (pc := 12) X dJ13_copyOfRangeByte_12 hl (by decide) (lv' := [(4, vR (some x10)), (3, vI (v2 - v1)), (0, vR v0), (1, vI v1), (2, vI v2)]) rfl (fun ls hl => ?_)
  refine a_aload_n (pc := 14) X dJ13_copyOfRangeByte_14 rfl hl 2 rfl ?_
  refine a_iload_n (pc := 15) X dJ13_copyOfRangeByte_15 rfl hl 3 rfl ?_
  refine a_aload (pc := 16) X dJ13_copyOfRangeByte_16 hl 0 rfl ?_
  refine AW.lift (fun _ _ _ _ k => lv_iconst (pc := 18) (v := (0 : Int32)) X.2.2.1 X.2.2.2.1 dJ13_copyOfRangeByte_18 rfl k) ?_
  refine a_aload_n (pc := 19) X dJ13_copyOfRangeByte_19 rfl hl 2 rfl ?_
  refine a_arraylength (pc := 20) X dJ13_copyOfRangeByte_20 hf (fun x20 hf => ?_)
  refine a_iload_n (pc := 21) X dJ13_copyOfRangeByte_21 rfl hl 3 rfl ?_
  refine AW.lift (fun _ _ _ _ k => lv_isub (pc := 22) X.2.2.1 X.2.2.2.1 dJ13_copyOfRangeByte_22 k) ?_
  refine a_iload_n (pc := 23) X dJ13_copyOfRangeByte_23 rfl hl 1 rfl ?_
  refine AW.lift_c Z.1 (fun _ _ _ _ hc hs k => va_mmin (pc := 24) X.2.2.1 X.2.2.2.1 (X.2.2.2.2.2.trans hl.1.symm) X.2.2.2.2.1 (gw X.1 X.2.1 q582) (gw X.1 X.2.1 q583) (gw X.1 X.2.1 q93) (gw X.1 X.2.1 q584) (Nat.le_trans (by decide) Z.1.2.2.2.2.2.1) (cat_le (rs := [vI (0 : Int32), vR (some x10), vI v1, vR v0]) (Nat.le_of_ble_eq_true rfl) Z.1.2.2.2.2.2.2) hc hs dJ13_copyOfRangeByte_24 k) ?_
  refine AW.eq (g2 := F0 m 27 ls [.int (if (v2 - v1) < (x20 - v1) then (v2 - v1) else (x20 - v1)), .int (0 : Int32), va_rf (some x10), .int v1, va_rf v0]) rfl ?_
  refine a_acp (pc := 27) (rs := []) Z.1 q585 q587 q586 q95 (by decide) (by decide) hl.1 (Nat.le_of_ble_eq_true rfl) (by decide) dJ13_copyOfRangeByte_27 hf (fun h hf => ?_)
  refine AW.eq (g2 := F0 m 30 ls []) rfl ?_
  refine a_aload (pc := 30) X dJ13_copyOfRangeByte_30 hl 0 rfl ?_
  exact a_areturn X Z.2.2.1 (Or.inr ⟨_, rfl⟩) Z.2.2.2.1 dJ13_copyOfRangeByte_32 hf
theorem w_J13_copyOfRange_j10 {r : Except Nat (Option Nat) × AH} (GA : GA l s0 a0 K lam) (Z : WZ l s0 a0 K p s m c cJ13_copyOfRange yJ13_copyOfRange.cls 3 b R 8 188 meth [] (some (.array (.byte))) yJ13_copyOfRange) (v0 : Option Nat) (v1 : Int32) (v2 : Int32)   {h : AH} {ls : Array Slot} (hl : LV ls 3 [(0, vR v0), (1, vI v1), (2, vI v2)]) (hf : f_J13_copyOfRange_j10 K v0 v1 v2 h = some r) : AW s0 K lam p l e R s m args below meth c (AQ s0 K lam below oR b r s) b h (F0 m 10 ls []) := by
  unfold f_J13_copyOfRange_j10 at hf
  have X := Z.1.1
  refine a_aload_n (pc := 10) X dJ13_copyOfRange_10 rfl hl 0 rfl ?_
  refine a_iload_n (pc := 11) X dJ13_copyOfRange_11 rfl hl 1 rfl ?_
  refine a_iload_n (pc := 12) X dJ13_copyOfRange_12 rfl hl 2 rfl ?_
  refine a_callb (pc := 13) (rs := []) (avs := [vR v0, vI v1, vI v2]) Z.1 (w_J13_copyOfRangeByte GA v0 v1 v2) (Or.inl rfl) q729 q94 (by decide) (by decide) dJ13_copyOfRange_13 hl.1 (Nat.le_of_ble_eq_true rfl) hf (ct_S X (Or.inl rfl) q729 q94 q727 q728 hy_J13_copyOfRangeByte np_J13_copyOfRangeByte rfl dJ13_copyOfRange_13) (fun q h he hX => a_out (unc_of Z.2.1 rfl) Z.2.2.2.1 he hX) (fun x13 h hf => ?kk13)
  refine AW.eq (g2 := F0 m 16 ls [va_rf x13]) rfl ?_
  exact a_areturn X Z.2.2.1 (Or.inr ⟨_, rfl⟩) Z.2.2.2.1 dJ13_copyOfRange_16 hf
theorem np_J13_copyOfRange : npar yJ13_copyOfRange.desc 3 := by unfold npar; decide +kernel
theorem hy_J13_copyOfRange : yJ13_copyOfRange.cls ≠ "java/lang/invoke/MethodHandle" ∧ yJ13_copyOfRange.cls ≠ "java/lang/invoke/VarHandle" := by decide +kernel
theorem w_J13_copyOfRange (GA : GA l s0 a0 K lam) (v0 : Option Nat) (v1 : Int32) (v2 : Int32) : AMet l s0 K lam yJ13_copyOfRange (Cond.code yJ13_copyOfRange cJ13_copyOfRange (3 : Nat) (Option.some (ClassFile.FieldType.array ClassFile.FieldType.byte))) 8 188 [vR v0, vI v1, vI v2] oR (f_J13_copyOfRange K v0 v1 v2) := by
  refine AMet.of GA.1 (plainFor_of_name (by decide +kernel)) (Nat.le_of_ble_eq_true rfl) ?_
  intro b r hf p e s m args below meth c X hr hlk hnm hnd ht ls hl
  have Z : WZ l s0 a0 K p s m c cJ13_copyOfRange yJ13_copyOfRange.cls 3 b { frames := 8, cells := K 0 - aX b, slots := K 1 - aW b, locals := 188 } 8 188 meth [] (some (.array (.byte))) yJ13_copyOfRange := ⟨⟨X, GA.2.1, GA.2.2.1, rfl, rfl, Nat.le_refl _, Nat.le_refl _⟩, tab_nil ht, hr, hlk, hnm, hnd⟩
  unfold f_J13_copyOfRange at hf
  clear hr hlk hnm hnd ht
  refine a_iload_n (pc := 0) X dJ13_copyOfRange_0 rfl hl 1 rfl ?_
  refine AW.lift2 (fun _ _ _ _ k1 k2 => lv_if_ne (pc := 1) (tgt := 10) X.2.2.1 X.2.2.2.1 dJ13_copyOfRange_1 rfl k2 k1) (fun c => ?_) (fun c => ?_)
  · have hf := ite_t c hf
    refine a_iload_n (pc := 4) X dJ13_copyOfRange_4 rfl hl 2 rfl ?_
    refine a_aload_n (pc := 5) X dJ13_copyOfRange_5 rfl hl 0 rfl ?_
    refine a_arraylength (pc := 6) X dJ13_copyOfRange_6 hf (fun x6 hf => ?_)
    refine AW.lift2 (fun _ _ _ _ k1 k2 => lv_icmp_eq (pc := 7) (tgt := 17) X.2.2.1 X.2.2.2.1 dJ13_copyOfRange_7 rfl k1 k2) (fun c => ?_) (fun c => ?_)
    · have hf := ite_t c hf
      refine a_aload_n (pc := 17) X dJ13_copyOfRange_17 rfl hl 0 rfl ?_
      exact fl_no hf
    · have hf := ite_f c hf
      exact w_J13_copyOfRange_j10 GA Z v0 v1 v2   (hl.sub [0, 1, 2] rfl) hf
  · have hf := ite_f c hf
    exact w_J13_copyOfRange_j10 GA Z v0 v1 v2   (hl.sub [0, 1, 2] rfl) hf
theorem w_J7_init_2_j79 {r : Except Nat (Unit) × AH} (GA : GA l s0 a0 K lam) (Z : WZ l s0 a0 K p s m c cJ7_init_2 yJ7_init_2.cls 5 b R 9 210 meth [] none yJ7_init_2) (v0 : Option Nat) (v3 : Option Nat) (v4 : Int32)   {h : AH} {ls : Array Slot} (hl : LV ls 5 [(0, vR v0), (3, vR v3), (4, vI v4)]) (hf : f_J7_init_2_j79 K v0 v3 v4 h = some r) : AW s0 K lam p l e R s m args below meth c (AQ s0 K lam below oV b r s) b h (F0 m 79 ls []) := by
  unfold f_J7_init_2_j79 at hf
  have X := Z.1.1
  refine a_aload_n (pc := 79) X dJ7_init_2_79 rfl hl 0 rfl ?_
  refine AW.lift (fun _ _ _ _ k => lv_iconst (pc := 80) (v := (1 : Int32)) X.2.2.1 X.2.2.2.1 dJ7_init_2_80 rfl k) ?_
  refine a_putF (pc := 81) (φ := 3401) X Z.1.2.1 Z.1.2.2.1 (gw X.1 X.2.1 q776) (fun _ q => q) (by decide) rfl Z.2.2.2.2.1 rfl rfl dJ7_init_2_81 hf (fun h hf => ?_)
  refine a_aload_n (pc := 84) X dJ7_init_2_84 rfl hl 0 rfl ?_
  refine a_aload_n (pc := 85) X dJ7_init_2_85 rfl hl 1 rfl ?_
  refine AW.lift (fun _ _ _ _ k => lv_iconst (pc := 86) (v := (0 : Int32)) X.2.2.1 X.2.2.2.1 dJ7_init_2_86 rfl k) ?_
  refine a_iload (pc := 87) X dJ7_init_2_87 hl 2 rfl ?_
  refine AW.lift (fun _ _ _ _ k => lv_iconst (pc := 89) (v := (1 : Int32)) X.2.2.1 X.2.2.2.1 dJ7_init_2_89 rfl k) ?_
  refine AW.lift (fun _ _ _ _ k => lv_ishl (pc := 90) X.2.2.1 X.2.2.2.1 dJ7_init_2_90 k) ?_
  refine a_callb (pc := 91) (rs := [vR v0]) (avs := [vR v3, vI (0 : Int32), vI (v4 <<< ((1 : Int32) &&& 31))]) Z.1 (w_J13_copyOfRange GA v3 (0 : Int32) (v4 <<< ((1 : Int32) &&& 31))) (Or.inl rfl) q726 q94 (by decide) (by decide) dJ7_init_2_91 hl.1 (Nat.le_of_ble_eq_true rfl) hf (ct_S X (Or.inl rfl) q726 q94 q724 q725 hy_J13_copyOfRange np_J13_copyOfRange rfl dJ7_init_2_91) (fun q h he hX => a_out (unc_of Z.2.1 rfl) Z.2.2.2.1 he hX) (fun x91 h hf => ?kk91)
  refine AW.eq (g2 := F0 m 94 ls [va_rf x91, va_rf v0]) rfl ?_
  refine a_putF (pc := 94) (φ := 3400) X Z.1.2.1 Z.1.2.2.1 (gw X.1 X.2.1 q775) (fun _ q => q) (by decide) rfl Z.2.2.2.2.1 rfl (fits_rf _ (Or.inr ⟨_, rfl⟩)) dJ7_init_2_94 hf (fun h hf => ?_)
  exact a_return X Z.2.2.1 Z.2.2.2.1 dJ7_init_2_97 hf
theorem np_J7_init_2 : npar yJ7_init_2.desc 2 := by unfold npar; decide +kernel
theorem hy_J7_init_2 : yJ7_init_2.cls ≠ "java/lang/invoke/MethodHandle" ∧ yJ7_init_2.cls ≠ "java/lang/invoke/VarHandle" := by decide +kernel
theorem w_J7_init_2 (GA : GA l s0 a0 K lam) (v0 : Option Nat) (v1 : Option Nat) (v2 : Option Nat) : AMet l s0 K lam yJ7_init_2 (Cond.code yJ7_init_2 cJ7_init_2 (5 : Nat) (Option.none : Option ClassFile.FieldType)) 9 210 [vR v0, vR v1, vR v2] oV (f_J7_init_2 K v0 v1 v2) := by
  refine AMet.of GA.1 (plainFor_of_name (by decide +kernel)) (Nat.le_of_ble_eq_true rfl) ?_
  intro b r hf p e s m args below meth c X hr hlk hnm hnd ht ls hl
  have Z : WZ l s0 a0 K p s m c cJ7_init_2 yJ7_init_2.cls 5 b { frames := 9, cells := K 0 - aX b, slots := K 1 - aW b, locals := 210 } 9 210 meth [] none yJ7_init_2 := ⟨⟨X, GA.2.1, GA.2.2.1, rfl, rfl, Nat.le_refl _, Nat.le_refl _⟩, tab_nil ht, hr, hlk, hnm, hnd⟩
  unfold f_J7_init_2 at hf
  clear hr hlk hnm hnd ht
  refine a_aload_n (pc := 0) X dJ7_init_2_0 rfl hl 0 rfl ?_
  obtain ⟨a1, rfl, hf⟩ := nz_some hf
  refine a_objInit (pc := 1) (rs := []) Z.1 q709 q144 q145 (by decide) (by decide) hl.1 (Nat.le_of_ble_eq_true rfl) dJ7_init_2_1 ?_
  refine AW.eq (g2 := F0 m 4 ls []) rfl ?_
  refine a_aload_n (pc := 4) X dJ7_init_2_4 rfl hl 1 rfl ?_
  obtain ⟨a5, rfl, ⟨hk, hf⟩ | ⟨-, hf⟩⟩ := dv_some hf
  rotate_left
  · exact fl_none hf
  refine a_callb (pc := 5) (rs := []) (avs := [vR (some a5)]) Z.1 (w_J5_getValue GA (some a5)) (Or.inl rfl) q714 q82 (by decide) (by decide) dJ7_init_2_5 hl.1 (Nat.le_of_ble_eq_true rfl) hf (ct_V hk ⟨by decide, by decide⟩ X (Or.inl rfl) q714 q710 q711 q713 hy_J5_getValue np_J5_getValue rfl dJ7_init_2_5) (fun q h he hX => a_out (unc_of Z.2.1 rfl) Z.2.2.2.1 he hX) (fun x5 h hf => ?kk5)
  refine AW.eq (g2 := F0 m 8 ls [va_rf x5]) rfl ?_
  refine a_astore_n (pc := 8) X dJ7_init_2_8 rfl hl (by decide) (lv' := [(3, vR x5), (0, vR (some a1)), (1, vR (some a5)), (2, vR v2)]) rfl (fun ls hl => ?_)
  refine a_aload_n (pc := 9) X dJ7_init_2_9 rfl hl 2 rfl ?_
  rcases dv_someS hf with ⟨hk, hf⟩ | ⟨-, hf⟩
  rotate_left
  · exact fl_none hf
  refine a_callb (pc := 10) (rs := []) (avs := [vR (some a5)]) Z.1 (w_J6_length GA (some a5)) (Or.inl rfl) q720 q83 (by decide) (by decide) dJ7_init_2_10 hl.1 (Nat.le_of_ble_eq_true rfl) hf (ct_U (x := ({ cls := "java/lang/AbstractStringBuilder", name := "length", desc := "()I" } : MethodName)) (owner := "java/lang/AbstractStringBuilder") hk ⟨by decide, by decide⟩ X (Or.inl rfl) q720 q715 (q717) (va_Decl.of (gw (args := args) X.1 X.2.1 q716) (gw X.1 X.2.1 q722)) ⟨by decide, by decide⟩ q719 q718 (np_of (np_J6_length)) rfl dJ7_init_2_10) (fun q h he hX => a_out (unc_of Z.2.1 rfl) Z.2.2.2.1 he hX) (fun x10 h hf => ?kk10)
  refine AW.eq (g2 := F0 m 13 ls [.int x10]) rfl ?_
  refine a_istore (pc := 13) X dJ7_init_2_13 hl (by decide) (lv' := [(4, vI x10), (3, vR x5), (0, vR (some a1)), (1, vR (some a5)), (2, vR v2)]) rfl (fun ls hl => ?_)
  refine a_aload_n (pc := 15) X dJ7_init_2_15 rfl hl 3 rfl ?_
  rcases dv_someS hf with ⟨hk, hf⟩ | ⟨-, hf⟩
  rotate_left
  · exact fl_none hf
  refine a_callb (pc := 16) (rs := []) (avs := [vR (some a5)]) Z.1 (w_J5_isLatin1 GA (some a5)) (Or.inl rfl) q592 q82 (by decide) (by decide) dJ7_init_2_16 hl.1 (Nat.le_of_ble_eq_true rfl) hf (ct_V hk ⟨by decide, by decide⟩ X (Or.inl rfl) q592 q723 q589 q591 hy_J5_isLatin1 np_J5_isLatin1 rfl dJ7_init_2_16) (fun q h he hX => a_out (unc_of Z.2.1 rfl) Z.2.2.2.1 he hX) (fun x16 h hf => ?kk16)
  refine AW.eq (g2 := F0 m 19 ls [.int x16]) rfl ?_
  refine AW.lift2 (fun _ _ _ _ k1 k2 => lv_if_eq (pc := 19) (tgt := 41) X.2.2.1 X.2.2.2.1 dJ7_init_2_19 rfl k1 k2) (fun c => ?_) (fun c => ?_)
  · have hf := ite_t c hf
    refine a_getstatic (pc := 41) (v := .int (1 : Int32)) X (st_COMPACT_STRINGS GA) (gw X.1 X.2.1 q627) (fun _ q => q) dJ7_init_2_41 ?_
    refine AW.lift2 (fun _ _ _ _ k1 k2 => lv_if_eq (pc := 44) (tgt := 79) X.2.2.1 X.2.2.2.1 dJ7_init_2_44 rfl k1 k2) (fun c => ?_) (fun c => ?_)
    · have hf := ite_t c hf
      exact w_J7_init_2_j79 GA Z (some a1) x5 x10   (hl.sub [2, 1, 0] rfl) hf
    · have hf := ite_f c hf
      refine a_aload_n (pc := 47) X dJ7_init_2_47 rfl hl 3 rfl ?_
      refine a_get (pc := 48) (φ := 3502) pI_t X Z.1.2.1 (gw X.1 X.2.1 q296) (fun _ q => q) (by decide) dJ7_init_2_48 hf (fun x48 hf => ?_)
      refine AW.lift2 (fun _ _ _ _ k1 k2 => lv_if_eq (pc := 51) (tgt := 79) X.2.2.1 X.2.2.2.1 dJ7_init_2_51 rfl k1 k2) (fun c => ?_) (fun c => ?_)
      · have hf := ite_t c hf
        exact w_J7_init_2_j79 GA Z (some a1) x5 x10   (hl.sub [2, 1, 0] rfl) hf
      · have hf := ite_f c hf
        refine a_aload_n (pc := 54) X dJ7_init_2_54 rfl hl 2 rfl ?_
        refine a_aload_n (pc := 55) X dJ7_init_2_55 rfl hl 1 rfl ?_
        refine AW.lift (fun _ _ _ _ k => lv_iconst (pc := 56) (v := (0 : Int32)) X.2.2.1 X.2.2.2.1 dJ7_init_2_56 rfl k) ?_
        refine a_iload (pc := 57) X dJ7_init_2_57 hl 0 rfl ?_
        exact fl_no hf
  · have hf := ite_f c hf
    refine a_aload_n (pc := 22) X dJ7_init_2_22 rfl hl 2 rfl ?_
    refine AW.lift (fun _ _ _ _ k => lv_iconst (pc := 23) (v := (0 : Int32)) X.2.2.1 X.2.2.2.1 dJ7_init_2_23 rfl k) ?_
    refine a_putF (pc := 24) (φ := 3401) X Z.1.2.1 Z.1.2.2.1 (gw X.1 X.2.1 q776) (fun _ q => q) (by decide) rfl Z.2.2.2.2.1 rfl rfl dJ7_init_2_24 hf (fun h hf => ?_)
    refine a_aload_n (pc := 27) X dJ7_init_2_27 rfl hl 2 rfl ?_
    refine a_aload_n (pc := 28) X dJ7_init_2_28 rfl hl 1 rfl ?_
    refine AW.lift (fun _ _ _ _ k => lv_iconst (pc := 29) (v := (0 : Int32)) X.2.2.1 X.2.2.2.1 dJ7_init_2_29 rfl k) ?_
    refine a_iload (pc := 30) X dJ7_init_2_30 hl 0 rfl ?_
    refine a_callb (pc := 32) (rs := [vR (some a1)]) (avs := [vR x5, vI (0 : Int32), vI x10]) Z.1 (w_J13_copyOfRange GA x5 (0 : Int32) x10) (Or.inl rfl) q726 q94 (by decide) (by decide) dJ7_init_2_32 hl.1 (Nat.le_of_ble_eq_true rfl) hf (ct_S X (Or.inl rfl) q726 q94 q724 q725 hy_J13_copyOfRange np_J13_copyOfRange rfl dJ7_init_2_32) (fun q h he hX => a_out (unc_of Z.2.1 rfl) Z.2.2.2.1 he hX) (fun x32 h hf => ?kk32)
    refine AW.eq (g2 := F0 m 35 ls [va_rf x32, va_rf (some a1)]) rfl ?_
    refine a_putF (pc := 35) (φ := 3400) X Z.1.2.1 Z.1.2.2.1 (gw X.1 X.2.1 q775) (fun _ q => q) (by decide) rfl Z.2.2.2.2.1 rfl (fits_rf _ (Or.inr ⟨_, rfl⟩)) dJ7_init_2_35 hf (fun h hf => ?_)
    refine AW.lift (fun _ _ _ _ k => lv_goto (pc := 38) (tgt := 97) X.2.2.1 X.2.2.2.1 dJ7_init_2_38 rfl k) ?_
    exact a_return X Z.2.2.1 Z.2.2.2.1 dJ7_init_2_97 hf
theorem np_J7_init : npar yJ7_init.desc 1 := by unfold npar; decide +kernel
theorem hy_J7_init : yJ7_init.cls ≠ "java/lang/invoke/MethodHandle" ∧ yJ7_init.cls ≠ "java/lang/invoke/VarHandle" := by decide +kernel
theorem w_J7_init (GA : GA l s0 a0 K lam) (v0 : Option Nat) (v1 : Option Nat) : AMet l s0 K lam yJ7_init (Cond.code yJ7_init cJ7_init (2 : Nat) (Option.none : Option ClassFile.FieldType)) 10 234 [vR v0, vR v1] oV (f_J7_init K v0 v1) := by
  refine AMet.of GA.1 (plainFor_of_name (by decide +kernel)) (Nat.le_of_ble_eq_true rfl) ?_
  intro b r hf p e s m args below meth c X hr hlk hnm hnd ht ls hl
  have Z : WZ l s0 a0 K p s m c cJ7_init yJ7_init.cls 2 b { frames := 10, cells := K 0 - aX b, slots := K 1 - aW b, locals := 234 } 10 234 meth [] none yJ7_init := ⟨⟨X, GA.2.1, GA.2.2.1, rfl, rfl, Nat.le_refl _, Nat.le_refl _⟩, tab_nil ht, hr, hlk, hnm, hnd⟩
  unfold f_J7_init at hf
  clear hr hlk hnm hnd ht
  refine a_aload_n (pc := 0) X dJ7_init_0 rfl hl 0 rfl ?_
  refine a_aload_n (pc := 1) X dJ7_init_1 rfl hl 1 rfl ?_
  refine a_null (pc := 2) X dJ7_init_2 ?_
  obtain ⟨a3, rfl, hf⟩ := nz_some hf
  refine a_callb (pc := 3) (rs := []) (avs := [vR (some a3), vR v1, vR none]) Z.1 (w_J7_init_2 GA (some a3) v1 none) (Or.inl rfl) q708 q84 (by decide) (by decide) dJ7_init_3 hl.1 (Nat.le_of_ble_eq_true rfl) hf (ct_I X q708 q706 q707 rfl hy_J7_init_2 np_J7_init_2 rfl dJ7_init_3) (fun q h he hX => a_out (unc_of Z.2.1 rfl) Z.2.2.2.1 he hX) (fun _ h hf => ?kk3)
  refine AW.eq (g2 := F0 m 6 ls []) rfl ?_
  exact a_return X Z.2.2.1 Z.2.2.2.1 dJ7_init_6 hf
theorem np_J6_toString : npar yJ6_toString.desc 0 := by unfold npar; decide +kernel
theorem hy_J6_toString : yJ6_toString.cls ≠ "java/lang/invoke/MethodHandle" ∧ yJ6_toString.cls ≠ "java/lang/invoke/VarHandle" := by decide +kernel
theorem w_J6_toString (GA : GA l s0 a0 K lam) (v0 : Option Nat) : AMet l s0 K lam yJ6_toString (Cond.code yJ6_toString cJ6_toString (1 : Nat) (Option.some (ClassFile.FieldType.object "java/lang/String"))) 11 255 [vR v0] oR (f_J6_toString K v0) := by
  refine AMet.of GA.1 (plainFor_of_name (by decide +kernel)) (Nat.le_of_ble_eq_true rfl) ?_
  intro b r hf p e s m args below meth c X hr hlk hnm hnd ht ls hl
  have Z : WZ l s0 a0 K p s m c cJ6_toString yJ6_toString.cls 1 b { frames := 11, cells := K 0 - aX b, slots := K 1 - aW b, locals := 255 } 11 255 meth [] (some (.object "java/lang/String")) yJ6_toString := ⟨⟨X, GA.2.1, GA.2.2.1, rfl, rfl, Nat.le_refl _, Nat.le_refl _⟩, tab_nil ht, hr, hlk, hnm, hnd⟩
  unfold f_J6_toString at hf
  clear hr hlk hnm hnd ht
  refine a_new (pc := 0) (cK := 34) (n := 4) X Z.1.2.1 Z.1.2.2.1 Z.1.2.2.2.1 Z.1.2.2.2.2.1 ⟨by decide, by decide, by decide⟩ (gw X.1 X.2.1 q701) (gw X.1 X.2.1 q702) (gw X.1 X.2.1 q84) dJ6_toString_0 hf (fun x0 h hf => ?_)
  refine AW.lift (fun _ _ _ _ k => lv_dup (pc := 3) X.2.2.1 X.2.2.2.1 dJ6_toString_3 (cat_rf _) k) ?_
  refine a_aload_n (pc := 4) X dJ6_toString_4 rfl hl 0 rfl ?_
  refine a_callb (pc := 5) (rs := [vR (some x0)]) (avs := [vR (some x0), vR v0]) Z.1 (w_J7_init GA (some x0) v0) (Or.inl rfl) q705 q84 (by decide) (by decide) dJ6_toString_5 hl.1 (Nat.le_of_ble_eq_true rfl) hf (ct_I X q705 q703 q704 rfl hy_J7_init np_J7_init rfl dJ6_toString_5) (fun q h he hX => a_out (unc_of Z.2.1 rfl) Z.2.2.2.1 he hX) (fun _ h hf => ?kk5)
  refine AW.eq (g2 := F0 m 8 ls [va_rf (some x0)]) rfl ?_
  exact a_areturn X Z.2.2.1 (Or.inl ⟨_, rfl⟩) Z.2.2.2.1 dJ6_toString_8 hf
theorem w_J17_equals_j17 {r : Except Nat (Int32) × AH} (GA : GA l s0 a0 K lam) (Z : WZ l s0 a0 K p s m c cJ17_equals yJ17_equals.cls 2 b R 2 44 meth [] (some (.boolean)) yJ17_equals)    {h : AH} {ls : Array Slot} (hl : LV ls 2 []) (hf : f_J17_equals_j17 K h = some r) : AW s0 K lam p l e R s m args below meth c (AQ s0 K lam below oI b r s) b h (F0 m 17 ls []) := by
  unfold f_J17_equals_j17 at hf
  have X := Z.1.1
  refine AW.lift (fun _ _ _ _ k => lv_iconst (pc := 17) (v := (1 : Int32)) X.2.2.1 X.2.2.2.1 dJ17_equals_17 rfl k) ?_
  refine AW.lift (fun _ _ _ _ k => lv_goto (pc := 18) (tgt := 22) X.2.2.1 X.2.2.2.1 dJ17_equals_18 rfl k) ?_
  exact a_zreturn X Z.2.2.1 rfl Z.2.2.2.1 dJ17_equals_22 hf
theorem np_J17_equals : npar yJ17_equals.desc 2 := by unfold npar; decide +kernel
theorem hy_J17_equals : yJ17_equals.cls ≠ "java/lang/invoke/MethodHandle" ∧ yJ17_equals.cls ≠ "java/lang/invoke/VarHandle" := by decide +kernel
theorem w_J17_equals (GA : GA l s0 a0 K lam) (v0 : Option Nat) (v1 : Option Nat) : AMet l s0 K lam yJ17_equals (Cond.code yJ17_equals cJ17_equals (2 : Nat) (Option.some ClassFile.FieldType.boolean)) 2 44 [vR v0, vR v1] oI (f_J17_equals K v0 v1) := by
  refine AMet.of GA.1 (plainFor_of_name (by decide +kernel)) (Nat.le_of_ble_eq_true rfl) ?_
  intro b r hf p e s m args below meth c X hr hlk hnm hnd ht ls hl
  have Z : WZ l s0 a0 K p s m c cJ17_equals yJ17_equals.cls 2 b { frames := 2, cells := K 0 - aX b, slots := K 1 - aW b, locals := 44 } 2 44 meth [] (some (.boolean)) yJ17_equals := ⟨⟨X, GA.2.1, GA.2.2.1, rfl, rfl, Nat.le_refl _, Nat.le_refl _⟩, tab_nil ht, hr, hlk, hnm, hnd⟩
  unfold f_J17_equals at hf
  clear hr hlk hnm hnd ht
  refine a_aload_n (pc := 0) X dJ17_equals_0 rfl hl 0 rfl ?_
  refine a_aload_n (pc := 1) X dJ17_equals_1 rfl hl 1 rfl ?_
  refine AW.lift2 (fun _ _ _ _ k1 k2 => lv_acmp_eq (pc := 2) (tgt := 17) X.2.2.1 X.2.2.2.1 dJ17_equals_2 rfl k1 k2) (fun c => ?_) (fun c => ?_)
  · have hf := ite_t c hf
    exact w_J17_equals_j17 GA Z    (hl.sub [] rfl) hf
  · have hf := ite_f c hf
    refine a_aload_n (pc := 5) X dJ17_equals_5 rfl hl 0 rfl ?_
    refine a_ifnull (pc := 6) (tgt := 21) X dJ17_equals_6 rfl (fun c => ?_) (fun c => ?_)
    · have hf := ite_t c hf
      refine AW.lift (fun _ _ _ _ k => lv_iconst (pc := 21) (v := (0 : Int32)) X.2.2.1 X.2.2.2.1 dJ17_equals_21 rfl k) ?_
      exact a_zreturn X Z.2.2.1 rfl Z.2.2.2.1 dJ17_equals_22 hf
    · have hf := ite_f c hf
      refine a_aload_n (pc := 9) X dJ17_equals_9 rfl hl 0 rfl ?_
      refine a_aload_n (pc := 10) X dJ17_equals_10 rfl hl 1 rfl ?_
      obtain ⟨a11, rfl⟩ := dv_ref hf
      refine' a_virt hf ?kv11 ?cs11
      case cs11 =>
        intro hf kk
        rcases dv_someS hf with ⟨hk, hf⟩ | ⟨-, hf⟩
        · refine a_callb (pc := 11) (rs := []) (avs := [vR (some a11), vR v1]) Z.1 (w_X10_equals GA (some a11) v1) (Or.inl rfl) q1611 q126 (by decide) (by decide) dJ17_equals_11 hl.1 (Nat.le_of_ble_eq_true rfl) hf (ct_U (x := ({ cls := "java/lang/Object", name := "equals", desc := "(Ljava/lang/Object;)Z" } : MethodName)) (owner := "java/lang/Object") hk ⟨by decide, by decide⟩ X (Or.inl rfl) q1611 q2795 (q1597) (va_Decl.ofD (gf (args := args) X.1 X.2.1 q1594 rfl)) ⟨by decide, by decide⟩ q1610 q1609 (np_of (np_X10_equals)) rfl dJ17_equals_11) (fun q h he hX => a_out (unc_of Z.2.1 rfl) Z.2.2.2.1 he hX) (fun v h hf => kk v h hf)
        rcases dv_someS hf with ⟨hk, hf⟩ | ⟨-, hf⟩
        · refine a_callb (pc := 11) (rs := []) (avs := [vR (some a11), vR v1]) Z.1 (w_J23_equals GA (some a11) v1) (Or.inl rfl) q1621 q105 (by decide) (by decide) dJ17_equals_11 hl.1 (Nat.le_of_ble_eq_true rfl) hf (ct_U (x := ({ cls := "java/lang/Object", name := "equals", desc := "(Ljava/lang/Object;)Z" } : MethodName)) (owner := "java/lang/Object") hk ⟨by decide, by decide⟩ X (Or.inl rfl) q1621 q2795 (q1597) (va_Decl.ofD (gf (args := args) X.1 X.2.1 q1594 rfl)) ⟨by decide, by decide⟩ q1620 q1619 (np_of (np_J23_equals)) rfl dJ17_equals_11) (fun q h he hX => a_out (unc_of Z.2.1 rfl) Z.2.2.2.1 he hX) (fun v h hf => kk v h hf)
        rcases dv_someS hf with ⟨hk, hf⟩ | ⟨-, hf⟩
        · refine a_callb (pc := 11) (rs := []) (avs := [vR (some a11), vR v1]) Z.1 (w_J7_equals GA (some a11) v1) (Or.inl rfl) q1628 q84 (by decide) (by decide) dJ17_equals_11 hl.1 (Nat.le_of_ble_eq_true rfl) hf (ct_U (x := ({ cls := "java/lang/Object", name := "equals", desc := "(Ljava/lang/Object;)Z" } : MethodName)) (owner := "java/lang/Object") hk ⟨by decide, by decide⟩ X (Or.inl rfl) q1628 q2795 (q1597) (va_Decl.ofD (gf (args := args) X.1 X.2.1 q1594 rfl)) ⟨by decide, by decide⟩ q1627 q1626 (np_of (np_J7_equals)) rfl dJ17_equals_11) (fun q h he hX => a_out (unc_of Z.2.1 rfl) Z.2.2.2.1 he hX) (fun v h hf => kk v h hf)
        exact fl_none hf
      case kv11 =>
      intro x11 h hf
      refine AW.eq (g2 := F0 m 14 ls [.int x11]) rfl ?_
      refine AW.lift2 (fun _ _ _ _ k1 k2 => lv_if_eq (pc := 14) (tgt := 21) X.2.2.1 X.2.2.2.1 dJ17_equals_14 rfl k1 k2) (fun c => ?_) (fun c => ?_)
      · have hf := ite_t c hf
        refine AW.lift (fun _ _ _ _ k => lv_iconst (pc := 21) (v := (0 : Int32)) X.2.2.1 X.2.2.2.1 dJ17_equals_21 rfl k) ?_
        exact a_zreturn X Z.2.2.1 rfl Z.2.2.2.1 dJ17_equals_22 hf
      · have hf := ite_f c hf
        exact w_J17_equals_j17 GA Z    (hl.sub [] rfl) hf
theorem w_J45_indexOf_b26 {r : Except Nat (Int32) × AH} (GA : GA l s0 a0 K lam) (Z : WZ l s0 a0 K p s m c cJ45_indexOf yJ45_indexOf.cls 4 b R 3 65 meth [] (some (.int)) yJ45_indexOf) (v1 : Option Nat) (v2 : Option Nat) (v3 : Int32)  (rc26 : Int32 → AM (Int32)) (hrc26 : ∀ (v3 : Int32) (h : AH) (ls : Array Slot), LV ls 4 [(1, vR v1), (2, vR v2), (3, vI v3)] → rc26 v3 h = some r → AW s0 K lam p l e R s m args below meth c (AQ s0 K lam below oI b r s) b h (F0 m 26 ls [])) {h : AH} {ls : Array Slot} (hl : LV ls 4 [(1, vR v1), (2, vR v2), (3, vI v3)]) (hf : f_J45_indexOf_b26 K rc26 v1 v2 v3 h = some r) : AW s0 K lam p l e R s m args below meth c (AQ s0 K lam below oI b r s) b h (F0 m 26 ls []) := by
  unfold f_J45_indexOf_b26 at hf
  have X := Z.1.1
  refine a_iload_n (pc := 26) X dJ45_indexOf_26 rfl hl 2 rfl ?_
  refine a_aload_n (pc := 27) X dJ45_indexOf_27 rfl hl 1 rfl ?_
  refine a_arraylength (pc := 28) X dJ45_indexOf_28 hf (fun x28 hf => ?_)
  refine AW.lift2 (fun _ _ _ _ k1 k2 => lv_icmp_ge (pc := 29) (tgt := 50) X.2.2.1 X.2.2.2.1 dJ45_indexOf_29 rfl k1 k2) (fun c => ?_) (fun c => ?_)
  · have hf := ite_t c hf
    refine AW.lift (fun _ _ _ _ k => lv_iconst (pc := 50) (v := (-1 : Int32)) X.2.2.1 X.2.2.2.1 dJ45_indexOf_50 rfl k) ?_
    exact a_ireturn X Z.2.2.1 Z.2.2.2.1 dJ45_indexOf_51 hf
  · have hf := ite_f c hf
    refine a_aload_n (pc := 32) X dJ45_indexOf_32 rfl hl 0 rfl ?_
    refine a_aload_n (pc := 33) X dJ45_indexOf_33 rfl hl 1 rfl ?_
    refine a_iload_n (pc := 34) X dJ45_indexOf_34 rfl hl 2 rfl ?_
    refine a_aaload (pc := 35) (t := 1006) (by decide) rfl X dJ45_indexOf_35 hf (fun x35 hf => ?_)
    refine a_callb (pc := 36) (rs := []) (avs := [vR v1, vR x35]) Z.1 (w_J17_equals GA v1 x35) (Or.inl rfl) q2794 q99 (by decide) (by decide) dJ45_indexOf_36 hl.1 (Nat.le_of_ble_eq_true rfl) hf (ct_S X (Or.inl rfl) q2794 q99 q2792 q2793 hy_J17_equals np_J17_equals rfl dJ45_indexOf_36) (fun q h he hX => a_out (unc_of Z.2.1 rfl) Z.2.2.2.1 he hX) (fun x36 h hf => ?kk36)
    refine AW.eq (g2 := F0 m 39 ls [.int x36]) rfl ?_
    refine AW.lift2 (fun _ _ _ _ k1 k2 => lv_if_eq (pc := 39) (tgt := 44) X.2.2.1 X.2.2.2.1 dJ45_indexOf_39 rfl k1 k2) (fun c => ?_) (fun c => ?_)
    · have hf := ite_t c hf
      refine a_iinc (pc := 44) (v := (v3 + (1 : Int32))) X dJ45_indexOf_44 hl (k := 2) rfl rfl (by decide) (lv' := [(3, vI (v3 + (1 : Int32))), (1, vR v1), (2, vR v2)]) rfl (fun ls hl => ?_)
      refine AW.lift (fun _ _ _ _ k => lv_goto (pc := 47) (tgt := 26) X.2.2.1 X.2.2.2.1 dJ45_indexOf_47 rfl k) ?_
      exact hrc26 (v3 + (1 : Int32)) _ _ (hl.sub [1, 2, 0] rfl) hf
    · have hf := ite_f c hf
      refine a_iload_n (pc := 42) X dJ45_indexOf_42 rfl hl 2 rfl ?_
      exact a_ireturn X Z.2.2.1 Z.2.2.2.1 dJ45_indexOf_43 hf
theorem w_J45_indexOf_l26 {r : Except Nat (Int32) × AH} (GA : GA l s0 a0 K lam) (Z : WZ l s0 a0 K p s m c cJ45_indexOf yJ45_indexOf.cls 4 b R 3 65 meth [] (some (.int)) yJ45_indexOf) (v1 : Option Nat) (v2 : Option Nat)  : ∀ (n : Nat) (v3 : Int32) (h : AH) (ls : Array Slot), LV ls 4 [(1, vR v1), (2, vR v2), (3, vI v3)] → f_J45_indexOf_l26 K v1 v2 n v3 h = some r → AW s0 K lam p l e R s m args below meth c (AQ s0 K lam below oI b r s) b h (F0 m 26 ls []) := by
  intro n
  induction n with
  | zero => intro v3 h ls hl hf; exact fl_no (h := h) hf
  | succ n ih => intro v3 h ls hl hf; exact w_J45_indexOf_b26 GA Z v1 v2 v3 (f_J45_indexOf_l26 K v1 v2 n) ih hl hf
theorem w_J45_indexOf_j19 {r : Except Nat (Int32) × AH} (GA : GA l s0 a0 K lam) (Z : WZ l s0 a0 K p s m c cJ45_indexOf yJ45_indexOf.cls 4 b R 3 65 meth [] (some (.int)) yJ45_indexOf) (v0 : Option Nat) (v1 : Option Nat)   {h : AH} {ls : Array Slot} (hl : LV ls 4 [(0, vR v0), (1, vR v1)]) (hf : f_J45_indexOf_j19 K v0 v1 h = some r) : AW s0 K lam p l e R s m args below meth c (AQ s0 K lam below oI b r s) b h (F0 m 19 ls []) := by
  unfold f_J45_indexOf_j19 at hf
  have X := Z.1.1
  refine a_aload_n (pc := 19) X dJ45_indexOf_19 rfl hl 0 rfl ?_
  refine a_get (pc := 20) (φ := 3700) pR_t X Z.1.2.1 (gw X.1 X.2.1 q2758) (fun _ q => q) (by decide) dJ45_indexOf_20 hf (fun x20 hf => ?_)
  refine a_astore_n (pc := 23) X dJ45_indexOf_23 rfl hl (by decide) (lv' := [(2, vR x20), (0, vR v0), (1, vR v1)]) rfl (fun ls hl => ?_)
  refine AW.lift (fun _ _ _ _ k => lv_iconst (pc := 24) (v := (0 : Int32)) X.2.2.1 X.2.2.2.1 dJ45_indexOf_24 rfl k) ?_
  refine a_istore_n (pc := 25) X dJ45_indexOf_25 rfl hl (by decide) (lv' := [(3, vI (0 : Int32)), (2, vR x20), (0, vR v0), (1, vR v1)]) rfl (fun ls hl => ?_)
  exact w_J45_indexOf_l26 GA Z v1 x20  FU (0 : Int32) _ _ (hl.sub [3, 1, 0] rfl) hf
theorem np_J45_indexOf : npar yJ45_indexOf.desc 1 := by unfold npar; decide +kernel
theorem hy_J45_indexOf : yJ45_indexOf.cls ≠ "java/lang/invoke/MethodHandle" ∧ yJ45_indexOf.cls ≠ "java/lang/invoke/VarHandle" := by decide +kernel
theorem w_J45_indexOf (GA : GA l s0 a0 K lam) (v0 : Option Nat) (v1 : Option Nat) : AMet l s0 K lam yJ45_indexOf (Cond.code yJ45_indexOf cJ45_indexOf (4 : Nat) (Option.some ClassFile.FieldType.int)) 3 65 [vR v0, vR v1] oI (f_J45_indexOf K v0 v1) := by
  refine AMet.of GA.1 (plainFor_of_name (by decide +kernel)) (Nat.le_of_ble_eq_true rfl) ?_
  intro b r hf p e s m args below meth c X hr hlk hnm hnd ht ls hl
  have Z : WZ l s0 a0 K p s m c cJ45_indexOf yJ45_indexOf.cls 4 b { frames := 3, cells := K 0 - aX b, slots := K 1 - aW b, locals := 65 } 3 65 meth [] (some (.int)) yJ45_indexOf := ⟨⟨X, GA.2.1, GA.2.2.1, rfl, rfl, Nat.le_refl _, Nat.le_refl _⟩, tab_nil ht, hr, hlk, hnm, hnd⟩
  unfold f_J45_indexOf at hf
  clear hr hlk hnm hnd ht
  refine a_aload_n (pc := 0) X dJ45_indexOf_0 rfl hl 0 rfl ?_
  refine a_get (pc := 1) (φ := 3701) pI_t X Z.1.2.1 (gw X.1 X.2.1 q2759) (fun _ q => q) (by decide) dJ45_indexOf_1 hf (fun x1 hf => ?_)
  refine AW.lift2 (fun _ _ _ _ k1 k2 => lv_if_ne (pc := 4) (tgt := 19) X.2.2.1 X.2.2.2.1 dJ45_indexOf_4 rfl k2 k1) (fun c => ?_) (fun c => ?_)
  · have hf := ite_t c hf
    refine a_aload_n (pc := 7) X dJ45_indexOf_7 rfl hl 1 rfl ?_
    refine a_ifnonnull (pc := 8) (tgt := 19) X dJ45_indexOf_8 rfl (fun c => ?_) (fun c => ?_)
    · have hf := ite_f c hf
      exact w_J45_indexOf_j19 GA Z v0 v1   (hl.sub [0, 1] rfl) hf
    · have hf := ite_t c hf
      exact fl_no hf
  · have hf := ite_f c hf
    exact w_J45_indexOf_j19 GA Z v0 v1   (hl.sub [0, 1] rfl) hf
theorem np_J43_contains : npar yJ43_contains.desc 1 := by unfold npar; decide +kernel
theorem hy_J43_contains : yJ43_contains.cls ≠ "java/lang/invoke/MethodHandle" ∧ yJ43_contains.cls ≠ "java/lang/invoke/VarHandle" := by decide +kernel
theorem w_J43_contains (GA : GA l s0 a0 K lam) (v0 : Option Nat) (v1 : Option Nat) : AMet l s0 K lam yJ43_contains (Cond.code yJ43_contains cJ43_contains (2 : Nat) (Option.some ClassFile.FieldType.boolean)) 4 88 [vR v0, vR v1] oI (f_J43_contains K v0 v1) := by
  refine AMet.of GA.1 (plainFor_of_name (by decide +kernel)) (Nat.le_of_ble_eq_true rfl) ?_
  intro b r hf p e s m args below meth c X hr hlk hnm hnd ht ls hl
  have Z : WZ l s0 a0 K p s m c cJ43_contains yJ43_contains.cls 2 b { frames := 4, cells := K 0 - aX b, slots := K 1 - aW b, locals := 88 } 4 88 meth [] (some (.boolean)) yJ43_contains := ⟨⟨X, GA.2.1, GA.2.2.1, rfl, rfl, Nat.le_refl _, Nat.le_refl _⟩, tab_nil ht, hr, hlk, hnm, hnd⟩
  unfold f_J43_contains at hf
  clear hr hlk hnm hnd ht
  refine a_aload_n (pc := 0) X dJ43_contains_0 rfl hl 0 rfl ?_
  refine a_aload_n (pc := 1) X dJ43_contains_1 rfl hl 1 rfl ?_
  obtain ⟨a2, rfl, ⟨hk, hf⟩ | ⟨-, hf⟩⟩ := dv_some hf
  rotate_left
  · exact fl_none hf
  refine a_callb (pc := 2) (rs := []) (avs := [vR (some a2), vR v1]) Z.1 (w_J45_indexOf GA (some a2) v1) (Or.inl rfl) q2791 q134 (by decide) (by decide) dJ43_contains_2 hl.1 (Nat.le_of_ble_eq_true rfl) hf (ct_Ub (x := ({ cls := "java/util/ImmutableCollections$AbstractImmutableList", name := "indexOf", desc := "(Ljava/lang/Object;)I" } : MethodName)) (x2 := ({ cls := "java/util/List", name := "indexOf", desc := "(Ljava/lang/Object;)I" } : MethodName)) hk ⟨by decide, by decide⟩ X (Or.inl rfl) q2791 (dw_0 GA) (by decide +kernel) (dw_1 GA) (by decide +kernel) ⟨rfl, rfl⟩ (va_Decl.ofD (gf (args := args) X.1 X.2.1 q2784 rfl)) ⟨by decide, by decide⟩ q2790 q2789 (np_of (np_J45_indexOf)) rfl dJ43_contains_2) (fun q h he hX => a_out (unc_of Z.2.1 rfl) Z.2.2.2.1 he hX) (fun x2 h hf => ?kk2)
  refine AW.eq (g2 := F0 m 5 ls [.int x2]) rfl ?_
  refine AW.lift2 (fun _ _ _ _ k1 k2 => lv_if_lt (pc := 5) (tgt := 12) X.2.2.1 X.2.2.2.1 dJ43_contains_5 rfl k1 k2) (fun c => ?_) (fun c => ?_)
  · have hf := ite_t c hf
    refine AW.lift (fun _ _ _ _ k => lv_iconst (pc := 12) (v := (0 : Int32)) X.2.2.1 X.2.2.2.1 dJ43_contains_12 rfl k) ?_
    exact a_zreturn X Z.2.2.1 rfl Z.2.2.2.1 dJ43_contains_13 hf
  · have hf := ite_f c hf
    refine AW.lift (fun _ _ _ _ k => lv_iconst (pc := 8) (v := (1 : Int32)) X.2.2.1 X.2.2.2.1 dJ43_contains_8 rfl k) ?_
    refine AW.lift (fun _ _ _ _ k => lv_goto (pc := 9) (tgt := 13) X.2.2.1 X.2.2.2.1 dJ43_contains_9 rfl k) ?_
    exact a_zreturn X Z.2.2.1 rfl Z.2.2.2.1 dJ43_contains_13 hf
theorem np_X11_peek : npar yX11_peek.desc 0 := by unfold npar; decide +kernel
theorem hy_X11_peek : yX11_peek.cls ≠ "java/lang/invoke/MethodHandle" ∧ yX11_peek.cls ≠ "java/lang/invoke/VarHandle" := by decide +kernel
theorem w_X11_peek (GA : GA l s0 a0 K lam) (v0 : Option Nat) : AMet l s0 K lam yX11_peek (Cond.code yX11_peek cX11_peek (1 : Nat) (Option.some ClassFile.FieldType.char)) 0 0 [vR v0] oI (f_X11_peek K v0) := by
  refine AMet.of GA.1 (plainFor_of_name (by decide +kernel)) (Nat.le_of_ble_eq_true rfl) ?_
  intro b r hf p e s m args below meth c X hr hlk hnm hnd ht ls hl
  have Z : WZ l s0 a0 K p s m c cX11_peek yX11_peek.cls 1 b { frames := 0, cells := K 0 - aX b, slots := K 1 - aW b, locals := 0 } 0 0 meth [] (some (.char)) yX11_peek := ⟨⟨X, GA.2.1, GA.2.2.1, rfl, rfl, Nat.le_refl _, Nat.le_refl _⟩, tab_nil ht, hr, hlk, hnm, hnd⟩
  unfold f_X11_peek at hf
  clear hr hlk hnm hnd ht
  refine a_aload_n (pc := 0) X dX11_peek_0 rfl hl 0 rfl ?_
  refine a_get (pc := 1) (φ := 903) pI_t X Z.1.2.1 (gw X.1 X.2.1 q2684) (fun _ q => q) (by decide) dX11_peek_1 hf (fun x1 hf => ?_)
  refine a_aload_n (pc := 4) X dX11_peek_4 rfl hl 0 rfl ?_
  refine a_get (pc := 5) (φ := 901) pI_t X Z.1.2.1 (gw X.1 X.2.1 q2682) (fun _ q => q) (by decide) dX11_peek_5 hf (fun x5 hf => ?_)
  refine AW.lift2 (fun _ _ _ _ k1 k2 => lv_icmp_ge (pc := 8) (tgt := 23) X.2.2.1 X.2.2.2.1 dX11_peek_8 rfl k1 k2) (fun c => ?_) (fun c => ?_)
  · have hf := ite_t c hf
    refine AW.lift (fun _ _ _ _ k => lv_iconst (pc := 23) (v := (0 : Int32)) X.2.2.1 X.2.2.2.1 dX11_peek_23 rfl k) ?_
    exact a_zreturn X Z.2.2.1 rfl Z.2.2.2.1 dX11_peek_24 hf
  · have hf := ite_f c hf
    refine a_aload_n (pc := 11) X dX11_peek_11 rfl hl 0 rfl ?_
    refine a_get (pc := 12) (φ := 900) pR_t X Z.1.2.1 (gw X.1 X.2.1 q2681) (fun _ q => q) (by decide) dX11_peek_12 hf (fun x12 hf => ?_)
    refine a_aload_n (pc := 15) X dX11_peek_15 rfl hl 0 rfl ?_
    refine a_get (pc := 16) (φ := 903) pI_t X Z.1.2.1 (gw X.1 X.2.1 q2684) (fun _ q => q) (by decide) dX11_peek_16 hf (fun x16 hf => ?_)
    refine a_caload (pc := 19) X dX11_peek_19 hf (fun x19 hf => ?_)
    refine AW.lift (fun _ _ _ _ k => lv_goto (pc := 20) (tgt := 24) X.2.2.1 X.2.2.2.1 dX11_peek_20 rfl k) ?_
    obtain ⟨hg, hf⟩ := chk_some hf
    exact a_zreturn X Z.2.2.1 hg Z.2.2.2.1 dX11_peek_24 hf
theorem np_J45_size : npar yJ45_size.desc 0 := by unfold npar; decide +kernel
theorem hy_J45_size : yJ45_size.cls ≠ "java/lang/invoke/MethodHandle" ∧ yJ45_size.cls ≠ "java/lang/invoke/VarHandle" := by decide +kernel
theorem w_J45_size (GA : GA l s0 a0 K lam) (v0 : Option Nat) : AMet l s0 K lam yJ45_size (Cond.code yJ45_size cJ45_size (1 : Nat) (Option.some ClassFile.FieldType.int)) 0 0 [vR v0] oI (f_J45_size K v0) := by
  refine AMet.of GA.1 (plainFor_of_name (by decide +kernel)) (Nat.le_of_ble_eq_true rfl) ?_
  intro b r hf p e s m args below meth c X hr hlk hnm hnd ht ls hl
  have Z : WZ l s0 a0 K p s m c cJ45_size yJ45_size.cls 1 b { frames := 0, cells := K 0 - aX b, slots := K 1 - aW b, locals := 0 } 0 0 meth [] (some (.int)) yJ45_size := ⟨⟨X, GA.2.1, GA.2.2.1, rfl, rfl, Nat.le_refl _, Nat.le_refl _⟩, tab_nil ht, hr, hlk, hnm, hnd⟩
  unfold f_J45_size at hf
  clear hr hlk hnm hnd ht
  refine a_aload_n (pc := 0) X dJ45_size_0 rfl hl 0 rfl ?_
  refine a_get (pc := 1) (φ := 3700) pR_t X Z.1.2.1 (gw X.1 X.2.1 q2758) (fun _ q => q) (by decide) dJ45_size_1 hf (fun x1 hf => ?_)
  refine a_arraylength (pc := 4) X dJ45_size_4 hf (fun x4 hf => ?_)
  exact a_ireturn X Z.2.2.1 Z.2.2.2.1 dJ45_size_5 hf
theorem np_J27_init : npar yJ27_init.desc 2 := by unfold npar; decide +kernel
theorem hy_J27_init : yJ27_init.cls ≠ "java/lang/invoke/MethodHandle" ∧ yJ27_init.cls ≠ "java/lang/invoke/VarHandle" := by decide +kernel
theorem w_J27_init (GA : GA l s0 a0 K lam) (v0 : Option Nat) (v1 : Option Nat) (v2 : Int32) : AMet l s0 K lam yJ27_init (Cond.code yJ27_init cJ27_init (3 : Nat) (Option.none : Option ClassFile.FieldType)) 1 20 [vR v0, vR v1, vI v2] oV (f_J27_init K v0 v1 v2) := by
  refine AMet.of GA.1 (plainFor_of_name (by decide +kernel)) (Nat.le_of_ble_eq_true rfl) ?_
  intro b r hf p e s m args below meth c X hr hlk hnm hnd ht ls hl
  have Z : WZ l s0 a0 K p s m c cJ27_init yJ27_init.cls 3 b { frames := 1, cells := K 0 - aX b, slots := K 1 - aW b, locals := 20 } 1 20 meth [] none yJ27_init := ⟨⟨X, GA.2.1, GA.2.2.1, rfl, rfl, Nat.le_refl _, Nat.le_refl _⟩, tab_nil ht, hr, hlk, hnm, hnd⟩
  unfold f_J27_init at hf
  clear hr hlk hnm hnd ht
  refine a_aload_n (pc := 0) X dJ27_init_0 rfl hl 0 rfl ?_
  obtain ⟨a1, rfl, hf⟩ := nz_some hf
  refine a_objInit (pc := 1) (rs := []) Z.1 q1056 q144 q145 (by decide) (by decide) hl.1 (Nat.le_of_ble_eq_true rfl) dJ27_init_1 ?_
  refine AW.eq (g2 := F0 m 4 ls []) rfl ?_
  refine a_aload_n (pc := 4) X dJ27_init_4 rfl hl 0 rfl ?_
  refine a_aload_n (pc := 5) X dJ27_init_5 rfl hl 1 rfl ?_
  refine a_putF (pc := 6) (φ := 3800) X Z.1.2.1 Z.1.2.2.1 (gw X.1 X.2.1 q1057) (fun _ q => q) (by decide) rfl Z.2.2.2.2.1 rfl (fits_rf _ (Or.inl ⟨_, rfl⟩)) dJ27_init_6 hf (fun h hf => ?_)
  refine a_aload_n (pc := 9) X dJ27_init_9 rfl hl 0 rfl ?_
  refine a_iload_n (pc := 10) X dJ27_init_10 rfl hl 2 rfl ?_
  refine a_putF (pc := 11) (φ := 3801) X Z.1.2.1 Z.1.2.2.1 (gw X.1 X.2.1 q1058) (fun _ q => q) (by decide) rfl Z.2.2.2.2.1 rfl rfl dJ27_init_11 hf (fun h hf => ?_)
  refine a_aload_n (pc := 14) X dJ27_init_14 rfl hl 0 rfl ?_
  refine AW.lift (fun _ _ _ _ k => lv_iconst (pc := 15) (v := (0 : Int32)) X.2.2.1 X.2.2.2.1 dJ27_init_15 rfl k) ?_
  refine a_put (pc := 16) (φ := 3803) X Z.1.2.1 Z.1.2.2.1 (gw X.1 X.2.1 q1060) (fun _ q => q) (by decide) rfl rfl dJ27_init_16 hf (fun h hf => ?_)
  refine a_aload_n (pc := 19) X dJ27_init_19 rfl hl 0 rfl ?_
  refine AW.lift (fun _ _ _ _ k => lv_iconst (pc := 20) (v := (0 : Int32)) X.2.2.1 X.2.2.2.1 dJ27_init_20 rfl k) ?_
  refine a_putF (pc := 21) (φ := 3802) X Z.1.2.1 Z.1.2.2.1 (gw X.1 X.2.1 q1059) (fun _ q => q) (by decide) rfl Z.2.2.2.2.1 rfl rfl dJ27_init_21 hf (fun h hf => ?_)
  exact a_return X Z.2.2.1 Z.2.2.2.1 dJ27_init_24 hf
theorem np_J43_iterator : npar yJ43_iterator.desc 0 := by unfold npar; decide +kernel
theorem hy_J43_iterator : yJ43_iterator.cls ≠ "java/lang/invoke/MethodHandle" ∧ yJ43_iterator.cls ≠ "java/lang/invoke/VarHandle" := by decide +kernel
theorem w_J43_iterator (GA : GA l s0 a0 K lam) (v0 : Option Nat) : AMet l s0 K lam yJ43_iterator (Cond.code yJ43_iterator cJ43_iterator (1 : Nat) (Option.some (ClassFile.FieldType.object "java/util/Iterator"))) 2 42 [vR v0] oR (f_J43_iterator K v0) := by
  refine AMet.of GA.1 (plainFor_of_name (by decide +kernel)) (Nat.le_of_ble_eq_true rfl) ?_
  intro b r hf p e s m args below meth c X hr hlk hnm hnd ht ls hl
  have Z : WZ l s0 a0 K p s m c cJ43_iterator yJ43_iterator.cls 1 b { frames := 2, cells := K 0 - aX b, slots := K 1 - aW b, locals := 42 } 2 42 meth [] (some (.object "java/util/Iterator")) yJ43_iterator := ⟨⟨X, GA.2.1, GA.2.2.1, rfl, rfl, Nat.le_refl _, Nat.le_refl _⟩, tab_nil ht, hr, hlk, hnm, hnd⟩
  unfold f_J43_iterator at hf
  clear hr hlk hnm hnd ht
  refine a_new (pc := 0) (cK := 38) (n := 4) X Z.1.2.1 Z.1.2.2.1 Z.1.2.2.2.1 Z.1.2.2.2.2.1 ⟨by decide, by decide, by decide⟩ (gw X.1 X.2.1 q1051) (gw X.1 X.2.1 q1052) (gw X.1 X.2.1 q111) dJ43_iterator_0 hf (fun x0 h hf => ?_)
  refine AW.lift (fun _ _ _ _ k => lv_dup (pc := 3) X.2.2.1 X.2.2.2.1 dJ43_iterator_3 (cat_rf _) k) ?_
  refine a_aload_n (pc := 4) X dJ43_iterator_4 rfl hl 0 rfl ?_
  refine a_aload_n (pc := 5) X dJ43_iterator_5 rfl hl 0 rfl ?_
  obtain ⟨a6, rfl, ⟨hk, hf⟩ | ⟨-, hf⟩⟩ := dv_some hf
  rotate_left
  · exact fl_none hf
  refine a_callb (pc := 6) (rs := [vR (some a6), vR (some x0), vR (some x0)]) (avs := [vR (some a6)]) Z.1 (w_J45_size GA (some a6)) (Or.inl rfl) q696 q134 (by decide) (by decide) dJ43_iterator_6 hl.1 (Nat.le_of_ble_eq_true rfl) hf (ct_U (x := ({ cls := "java/util/ImmutableCollections$AbstractImmutableList", name := "size", desc := "()I" } : MethodName)) (owner := "java/util/AbstractCollection") hk ⟨by decide, by decide⟩ X (Or.inl rfl) q696 q688 (q689) (va_Decl.ofD (gf (args := args) X.1 X.2.1 q690 rfl)) ⟨by decide, by decide⟩ q695 q694 (np_of (np_J45_size)) rfl dJ43_iterator_6) (fun q h he hX => a_out (unc_of Z.2.1 rfl) Z.2.2.2.1 he hX) (fun x6 h hf => ?kk6)
  refine AW.eq (g2 := F0 m 9 ls [.int x6, va_rf (some a6), va_rf (some x0), va_rf (some x0)]) rfl ?_
  refine a_callb (pc := 9) (rs := [vR (some x0)]) (avs := [vR (some x0), vR (some a6), vI x6]) Z.1 (w_J27_init GA (some x0) (some a6) x6) (Or.inl rfl) q1055 q111 (by decide) (by decide) dJ43_iterator_9 hl.1 (Nat.le_of_ble_eq_true rfl) hf (ct_I X q1055 q1053 q1054 rfl hy_J27_init np_J27_init rfl dJ43_iterator_9) (fun q h he hX => a_out (unc_of Z.2.1 rfl) Z.2.2.2.1 he hX) (fun _ h hf => ?kk9)
  refine AW.eq (g2 := F0 m 12 ls [va_rf (some x0)]) rfl ?_
  exact a_areturn X Z.2.2.1 (Or.inl ⟨_, rfl⟩) Z.2.2.2.1 dJ43_iterator_12 hf
theorem np_J27_hasNext : npar yJ27_hasNext.desc 0 := by unfold npar; decide +kernel
theorem hy_J27_hasNext : yJ27_hasNext.cls ≠ "java/lang/invoke/MethodHandle" ∧ yJ27_hasNext.cls ≠ "java/lang/invoke/VarHandle" := by decide +kernel
theorem w_J27_hasNext (GA : GA l s0 a0 K lam) (v0 : Option Nat) : AMet l s0 K lam yJ27_hasNext (Cond.code yJ27_hasNext cJ27_hasNext (1 : Nat) (Option.some ClassFile.FieldType.boolean)) 0 0 [vR v0] oI (f_J27_hasNext K v0) := by
  refine AMet.of GA.1 (plainFor_of_name (by decide +kernel)) (Nat.le_of_ble_eq_true rfl) ?_
  intro b r hf p e s m args below meth c X hr hlk hnm hnd ht ls hl
  have Z : WZ l s0 a0 K p s m c cJ27_hasNext yJ27_hasNext.cls 1 b { frames := 0, cells := K 0 - aX b, slots := K 1 - aW b, locals := 0 } 0 0 meth [] (some (.boolean)) yJ27_hasNext := ⟨⟨X, GA.2.1, GA.2.2.1, rfl, rfl, Nat.le_refl _, Nat.le_refl _⟩, tab_nil ht, hr, hlk, hnm, hnd⟩
  unfold f_J27_hasNext at hf
  clear hr hlk hnm hnd ht
  refine a_aload_n (pc := 0) X dJ27_hasNext_0 rfl hl 0 rfl ?_
  refine a_get (pc := 1) (φ := 3803) pI_t X Z.1.2.1 (gw X.1 X.2.1 q1060) (fun _ q => q) (by decide) dJ27_hasNext_1 hf (fun x1 hf => ?_)
  refine a_aload_n (pc := 4) X dJ27_hasNext_4 rfl hl 0 rfl ?_
  refine a_get (pc := 5) (φ := 3801) pI_t X Z.1.2.1 (gw X.1 X.2.1 q1058) (fun _ q => q) (by decide) dJ27_hasNext_5 hf (fun x5 hf => ?_)
  refine AW.lift2 (fun _ _ _ _ k1 k2 => lv_icmp_eq (pc := 8) (tgt := 15) X.2.2.1 X.2.2.2.1 dJ27_hasNext_8 rfl k1 k2) (fun c => ?_) (fun c => ?_)
  · have hf := ite_t c hf
    refine AW.lift (fun _ _ _ _ k => lv_iconst (pc := 15) (v := (0 : Int32)) X.2.2.1 X.2.2.2.1 dJ27_hasNext_15 rfl k) ?_
    exact a_zreturn X Z.2.2.1 rfl Z.2.2.2.1 dJ27_hasNext_16 hf
  · have hf := ite_f c hf
    refine AW.lift (fun _ _ _ _ k => lv_iconst (pc := 11) (v := (1 : Int32)) X.2.2.1 X.2.2.2.1 dJ27_hasNext_11 rfl k) ?_
    refine AW.lift (fun _ _ _ _ k => lv_goto (pc := 12) (tgt := 16) X.2.2.1 X.2.2.2.1 dJ27_hasNext_12 rfl k) ?_
    exact a_zreturn X Z.2.2.1 rfl Z.2.2.2.1 dJ27_hasNext_16 hf
theorem np_J45_get : npar yJ45_get.desc 1 := by unfold npar; decide +kernel
theorem hy_J45_get : yJ45_get.cls ≠ "java/lang/invoke/MethodHandle" ∧ yJ45_get.cls ≠ "java/lang/invoke/VarHandle" := by decide +kernel
theorem w_J45_get (GA : GA l s0 a0 K lam) (v0 : Option Nat) (v1 : Int32) : AMet l s0 K lam yJ45_get (Cond.code yJ45_get cJ45_get (2 : Nat) (Option.some (ClassFile.FieldType.object "java/lang/Object"))) 0 0 [vR v0, vI v1] oR (f_J45_get K v0 v1) := by
  refine AMet.of GA.1 (plainFor_of_name (by decide +kernel)) (Nat.le_of_ble_eq_true rfl) ?_
  intro b r hf p e s m args below meth c X hr hlk hnm hnd ht ls hl
  have Z : WZ l s0 a0 K p s m c cJ45_get yJ45_get.cls 2 b { frames := 0, cells := K 0 - aX b, slots := K 1 - aW b, locals := 0 } 0 0 meth [] (some (.object "java/lang/Object")) yJ45_get := ⟨⟨X, GA.2.1, GA.2.2.1, rfl, rfl, Nat.le_refl _, Nat.le_refl _⟩, tab_nil ht, hr, hlk, hnm, hnd⟩
  unfold f_J45_get at hf
  clear hr hlk hnm hnd ht
  refine a_aload_n (pc := 0) X dJ45_get_0 rfl hl 0 rfl ?_
  refine a_get (pc := 1) (φ := 3700) pR_t X Z.1.2.1 (gw X.1 X.2.1 q2758) (fun _ q => q) (by decide) dJ45_get_1 hf (fun x1 hf => ?_)
  refine a_iload_n (pc := 4) X dJ45_get_4 rfl hl 1 rfl ?_
  refine a_aaload (pc := 5) (t := 1006) (by decide) rfl X dJ45_get_5 hf (fun x5 hf => ?_)
  exact a_areturn X Z.2.2.1 (Or.inl ⟨_, rfl⟩) Z.2.2.2.1 dJ45_get_6 hf
theorem np_J27_next : npar yJ27_next.desc 0 := by unfold npar; decide +kernel
theorem hy_J27_next : yJ27_next.cls ≠ "java/lang/invoke/MethodHandle" ∧ yJ27_next.cls ≠ "java/lang/invoke/VarHandle" := by decide +kernel
theorem w_J27_next (GA : GA l s0 a0 K lam) (v0 : Option Nat) : AMet l s0 K lam yJ27_next (Cond.codeWith yJ27_next cJ27_next (3 : Nat) (Option.some (ClassFile.FieldType.object "java/lang/Object")) [((0 : Nat), (24 : Nat), (25 : Nat), (30 : Nat))]) 1 21 [vR v0] oR (f_J27_next K v0) := by
  refine AMet.ofW GA.1 (plainFor_of_name (by decide +kernel)) (Nat.le_of_ble_eq_true rfl) ?_
  intro b r hf p e s m args below meth c X hr hlk hnm hnd ht ls hl
  have Z : WZ l s0 a0 K p s m c cJ27_next yJ27_next.cls 3 b { frames := 1, cells := K 0 - aX b, slots := K 1 - aW b, locals := 21 } 1 21 meth [(0, 24, 25, 30)] (some (.object "java/lang/Object")) yJ27_next := ⟨⟨X, GA.2.1, GA.2.2.1, rfl, rfl, Nat.le_refl _, Nat.le_refl _⟩, ht, hr, hlk, hnm, hnd⟩
  unfold f_J27_next at hf
  clear hr hlk hnm hnd ht
  refine a_aload_n (pc := 0) X dJ27_next_0 rfl hl 0 rfl ?_
  refine a_get (pc := 1) (φ := 3803) pI_t X Z.1.2.1 (gw X.1 X.2.1 q1060) (fun _ q => q) (by decide) dJ27_next_1 hf (fun x1 hf => ?_)
  refine a_istore_n (pc := 4) X dJ27_next_4 rfl hl (by decide) (lv' := [(1, vI x1), (0, vR v0)]) rfl (fun ls hl => ?_)
  refine a_aload_n (pc := 5) X dJ27_next_5 rfl hl 1 rfl ?_
  refine a_get (pc := 6) (φ := 3800) pR_t X Z.1.2.1 (gw X.1 X.2.1 q1057) (fun _ q => q) (by decide) dJ27_next_6 hf (fun x6 hf => ?_)
  refine a_iload_n (pc := 9) X dJ27_next_9 rfl hl 0 rfl ?_
  obtain ⟨a10, rfl, ⟨hk, hf⟩ | ⟨-, hf⟩⟩ := dv_tsome hf
  rotate_left
  · exact fl_tnone hf
  refine a_callt (pc := 10) (rs := []) (avs := [vR (some a10), vI x1]) Z.1 (w_J45_get GA (some a10) x1) (Or.inl rfl) q799 q134 (by decide) (by decide) dJ27_next_10 hl.1 (Nat.le_of_ble_eq_true rfl) hf (ct_F (x := ({ cls := "java/util/List", name := "get", desc := "(I)Ljava/lang/Object;" } : MethodName)) hk ⟨by decide, by decide⟩ X (Or.inl rfl) q799 q497 (gf X.1 X.2.1 q499 rfl) (gf X.1 X.2.1 q498 rfl) (gf X.1 X.2.1 q798 rfl) (gf X.1 X.2.1 q796 rfl) (gf X.1 X.2.1 q794 rfl) q797 q795 ⟨by decide, by decide⟩ np_J45_get rfl dJ27_next_10) (fun q h hf hX => ?hx10) (fun x10 h hf => ?kk10)
  case hx10 =>
    exact fl_no hf
  refine AW.eq (g2 := F0 m 15 ls [va_rf x10]) rfl ?_
  refine a_astore_n (pc := 15) X dJ27_next_15 rfl hl (by decide) (lv' := [(2, vR x10), (1, vI x1), (0, vR v0)]) rfl (fun ls hl => ?_)
  refine a_aload_n (pc := 16) X dJ27_next_16 rfl hl 2 rfl ?_
  refine a_iload_n (pc := 17) X dJ27_next_17 rfl hl 1 rfl ?_
  refine AW.lift (fun _ _ _ _ k => lv_iconst (pc := 18) (v := (1 : Int32)) X.2.2.1 X.2.2.2.1 dJ27_next_18 rfl k) ?_
  refine AW.lift (fun _ _ _ _ k => lv_iadd (pc := 19) X.2.2.1 X.2.2.2.1 dJ27_next_19 k) ?_
  refine a_put (pc := 20) (φ := 3803) X Z.1.2.1 Z.1.2.2.1 (gw X.1 X.2.1 q1060) (fun _ q => q) (by decide) rfl rfl dJ27_next_20 hf (fun h hf => ?_)
  refine a_aload_n (pc := 23) X dJ27_next_23 rfl hl 0 rfl ?_
  exact a_areturn X Z.2.2.1 (Or.inl ⟨_, rfl⟩) Z.2.2.2.1 dJ27_next_24 hf
theorem w_J11_mismatch_2_b70 {r : Except Nat (Int32) × AH} (GA : GA l s0 a0 K lam) (Z : WZ l s0 a0 K p s m c cJ11_mismatch_2 yJ11_mismatch_2.cls 8 b R 0 0 meth [] (some (.int)) yJ11_mismatch_2) (v0 : Option Nat) (v1 : Int32) (v2 : Option Nat) (v3 : Int32) (v4 : Int32) (v5 : Int32)  (rc70 : Int32 → AM (Int32)) (hrc70 : ∀ (v5 : Int32) (h : AH) (ls : Array Slot), LV ls 8 [(0, vR v0), (1, vI v1), (2, vR v2), (3, vI v3), (4, vI v4), (5, vI v5)] → rc70 v5 h = some r → AW s0 K lam p l e R s m args below meth c (AQ s0 K lam below oI b r s) b h (F0 m 70 ls [])) {h : AH} {ls : Array Slot} (hl : LV ls 8 [(0, vR v0), (1, vI v1), (2, vR v2), (3, vI v3), (4, vI v4), (5, vI v5)]) (hf : f_J11_mismatch_2_b70 K rc70 v0 v1 v2 v3 v4 v5 h = some r) : AW s0 K lam p l e R s m args below meth c (AQ s0 K lam below oI b r s) b h (F0 m 70 ls []) := by
  unfold f_J11_mismatch_2_b70 at hf
  have X := Z.1.1
  refine a_iload (pc := 70) X dJ11_mismatch_2_70 hl 5 rfl ?_
  refine a_iload (pc := 72) X dJ11_mismatch_2_72 hl 4 rfl ?_
  refine AW.lift2 (fun _ _ _ _ k1 k2 => lv_icmp_ge (pc := 74) (tgt := 101) X.2.2.1 X.2.2.2.1 dJ11_mismatch_2_74 rfl k1 k2) (fun c => ?_) (fun c => ?_)
  · have hf := ite_t c hf
    refine AW.lift (fun _ _ _ _ k => lv_iconst (pc := 101) (v := (-1 : Int32)) X.2.2.1 X.2.2.2.1 dJ11_mismatch_2_101 rfl k) ?_
    exact a_ireturn X Z.2.2.1 Z.2.2.2.1 dJ11_mismatch_2_102 hf
  · have hf := ite_f c hf
    refine a_aload_n (pc := 77) X dJ11_mismatch_2_77 rfl hl 0 rfl ?_
    refine a_iload_n (pc := 78) X dJ11_mismatch_2_78 rfl hl 1 rfl ?_
    refine a_iload (pc := 79) X dJ11_mismatch_2_79 hl 5 rfl ?_
    refine AW.lift (fun _ _ _ _ k => lv_iadd (pc := 81) X.2.2.1 X.2.2.2.1 dJ11_mismatch_2_81 k) ?_
    refine a_baload (pc := 82) X dJ11_mismatch_2_82 hf (fun x82 hf => ?_)
    refine a_aload_n (pc := 83) X dJ11_mismatch_2_83 rfl hl 2 rfl ?_
    refine a_iload_n (pc := 84) X dJ11_mismatch_2_84 rfl hl 3 rfl ?_
    refine a_iload (pc := 85) X dJ11_mismatch_2_85 hl 5 rfl ?_
    refine AW.lift (fun _ _ _ _ k => lv_iadd (pc := 87) X.2.2.1 X.2.2.2.1 dJ11_mismatch_2_87 k) ?_
    refine a_baload (pc := 88) X dJ11_mismatch_2_88 hf (fun x88 hf => ?_)
    refine AW.lift2 (fun _ _ _ _ k1 k2 => lv_icmp_eq (pc := 89) (tgt := 95) X.2.2.1 X.2.2.2.1 dJ11_mismatch_2_89 rfl k1 k2) (fun c => ?_) (fun c => ?_)
    · have hf := ite_t c hf
      refine a_iinc (pc := 95) (v := (v5 + (1 : Int32))) X dJ11_mismatch_2_95 hl (k := 5) rfl rfl (by decide) (lv' := [(5, vI (v5 + (1 : Int32))), (0, vR v0), (1, vI v1), (2, vR v2), (3, vI v3), (4, vI v4)]) rfl (fun ls hl => ?_)
      refine AW.lift (fun _ _ _ _ k => lv_goto (pc := 98) (tgt := 70) X.2.2.1 X.2.2.2.1 dJ11_mismatch_2_98 rfl k) ?_
      exact hrc70 (v5 + (1 : Int32)) _ _ (hl.sub [1, 2, 3, 4, 5, 0] rfl) hf
    · have hf := ite_f c hf
      refine a_iload (pc := 92) X dJ11_mismatch_2_92 hl 5 rfl ?_
      exact a_ireturn X Z.2.2.1 Z.2.2.2.1 dJ11_mismatch_2_94 hf
theorem w_J11_mismatch_2_l70 {r : Except Nat (Int32) × AH} (GA : GA l s0 a0 K lam) (Z : WZ l s0 a0 K p s m c cJ11_mismatch_2 yJ11_mismatch_2.cls 8 b R 0 0 meth [] (some (.int)) yJ11_mismatch_2) (v0 : Option Nat) (v1 : Int32) (v2 : Option Nat) (v3 : Int32) (v4 : Int32)  : ∀ (n : Nat) (v5 : Int32) (h : AH) (ls : Array Slot), LV ls 8 [(0, vR v0), (1, vI v1), (2, vR v2), (3, vI v3), (4, vI v4), (5, vI v5)] → f_J11_mismatch_2_l70 K v0 v1 v2 v3 v4 n v5 h = some r → AW s0 K lam p l e R s m args below meth c (AQ s0 K lam below oI b r s) b h (F0 m 70 ls []) := by
  intro n
  induction n with
  | zero => intro v5 h ls hl hf; exact fl_no (h := h) hf
  | succ n ih => intro v5 h ls hl hf; exact w_J11_mismatch_2_b70 GA Z v0 v1 v2 v3 v4 v5 (f_J11_mismatch_2_l70 K v0 v1 v2 v3 v4 n) ih hl hf
theorem np_J11_mismatch_2 : npar yJ11_mismatch_2.desc 5 := by unfold npar; decide +kernel
theorem hy_J11_mismatch_2 : yJ11_mismatch_2.cls ≠ "java/lang/invoke/MethodHandle" ∧ yJ11_mismatch_2.cls ≠ "java/lang/invoke/VarHandle" := by decide +kernel
theorem w_J11_mismatch_2 (GA : GA l s0 a0 K lam) (v0 : Option Nat) (v1 : Int32) (v2 : Option Nat) (v3 : Int32) (v4 : Int32) : AMet l s0 K lam yJ11_mismatch_2 (Cond.code yJ11_mismatch_2 cJ11_mismatch_2 (8 : Nat) (Option.some ClassFile.FieldType.int)) 0 0 [vR v0, vI v1, vR v2, vI v3, vI v4] oI (f_J11_mismatch_2 K v0 v1 v2 v3 v4) := by
  refine AMet.of GA.1 (plainFor_of_name (by decide +kernel)) (Nat.le_of_ble_eq_true rfl) ?_
  intro b r hf p e s m args below meth c X hr hlk hnm hnd ht ls hl
  have Z : WZ l s0 a0 K p s m c cJ11_mismatch_2 yJ11_mismatch_2.cls 8 b { frames := 0, cells := K 0 - aX b, slots := K 1 - aW b, locals := 0 } 0 0 meth [] (some (.int)) yJ11_mismatch_2 := ⟨⟨X, GA.2.1, GA.2.2.1, rfl, rfl, Nat.le_refl _, Nat.le_refl _⟩, tab_nil ht, hr, hlk, hnm, hnd⟩
  unfold f_J11_mismatch_2 at hf
  clear hr hlk hnm hnd ht
  refine AW.lift (fun _ _ _ _ k => lv_iconst (pc := 0) (v := (0 : Int32)) X.2.2.1 X.2.2.2.1 dJ11_mismatch_2_0 rfl k) ?_
  refine a_istore (pc := 1) X dJ11_mismatch_2_1 hl (by decide) (lv' := [(5, vI (0 : Int32)), (0, vR v0), (1, vI v1), (2, vR v2), (3, vI v3), (4, vI v4)]) rfl (fun ls hl => ?_)
  refine a_iload (pc := 3) X dJ11_mismatch_2_3 hl 5 rfl ?_
  refine AW.lift (fun _ _ _ _ k => lv_bipush (pc := 5) (v := (7 : Int32)) X.2.2.1 X.2.2.2.1 dJ11_mismatch_2_5 rfl k) ?_
  refine AW.lift2 (fun _ _ _ _ k1 k2 => lv_icmp_le (pc := 7) (tgt := 70) X.2.2.1 X.2.2.2.1 dJ11_mismatch_2_7 rfl k1 k2) (fun c => ?_) (fun c => ?_)
  · have hf := ite_t c hf
    exact w_J11_mismatch_2_l70 GA Z v0 v1 v2 v3 v4  FU (0 : Int32) _ _ (hl.sub [1, 2, 3, 4, 5, 0] rfl) hf
  · have hf := ite_f c hf
    refine a_aload_n (pc := 10) X dJ11_mismatch_2_10 rfl hl 1 rfl ?_
    refine a_iload_n (pc := 11) X dJ11_mismatch_2_11 rfl hl 2 rfl ?_
    refine a_baload (pc := 12) X dJ11_mismatch_2_12 hf (fun x12 hf => ?_)
    refine a_aload_n (pc := 13) X dJ11_mismatch_2_13 rfl hl 3 rfl ?_
    refine a_iload_n (pc := 14) X dJ11_mismatch_2_14 rfl hl 4 rfl ?_
    refine a_baload (pc := 15) X dJ11_mismatch_2_15 hf (fun x15 hf => ?_)
    refine AW.lift2 (fun _ _ _ _ k1 k2 => lv_icmp_eq (pc := 16) (tgt := 21) X.2.2.1 X.2.2.2.1 dJ11_mismatch_2_16 rfl k1 k2) (fun c => ?_) (fun c => ?_)
    · have hf := ite_t c hf
      exact fl_no hf
    · have hf := ite_f c hf
      refine AW.lift (fun _ _ _ _ k => lv_iconst (pc := 19) (v := (0 : Int32)) X.2.2.1 X.2.2.2.1 dJ11_mismatch_2_19 rfl k) ?_
      exact a_ireturn X Z.2.2.1 Z.2.2.2.1 dJ11_mismatch_2_20 hf
theorem w_J7_startsWith_2_j63 {r : Except Nat (Int32) × AH} (GA : GA l s0 a0 K lam) (Z : WZ l s0 a0 K p s m c cJ7_startsWith_2 yJ7_startsWith_2.cls 8 b R 2 40 meth [] (some (.boolean)) yJ7_startsWith_2) (v2 : Int32) (v3 : Option Nat) (v4 : Option Nat) (v6 : Int32)   {h : AH} {ls : Array Slot} (hl : LV ls 8 [(2, vI v2), (3, vR v3), (4, vR v4), (6, vI v6)]) (hf : f_J7_startsWith_2_j63 K v2 v3 v4 v6 h = some r) : AW s0 K lam p l e R s m args below meth c (AQ s0 K lam below oI b r s) b h (F0 m 63 ls []) := by
  unfold f_J7_startsWith_2_j63 at hf
  have X := Z.1.1
  refine a_aload_n (pc := 63) X dJ7_startsWith_2_63 rfl hl 1 rfl ?_
  refine a_iload_n (pc := 64) X dJ7_startsWith_2_64 rfl hl 0 rfl ?_
  refine a_aload (pc := 65) X dJ7_startsWith_2_65 hl 2 rfl ?_
  refine AW.lift (fun _ _ _ _ k => lv_iconst (pc := 67) (v := (0 : Int32)) X.2.2.1 X.2.2.2.1 dJ7_startsWith_2_67 rfl k) ?_
  refine a_iload (pc := 68) X dJ7_startsWith_2_68 hl 3 rfl ?_
  refine a_callb (pc := 70) (rs := []) (avs := [vR v3, vI v2, vR v4, vI (0 : Int32), vI v6]) Z.1 (w_J11_mismatch_2 GA v3 v2 v4 (0 : Int32) v6) (Or.inl rfl) q2834 q92 (by decide) (by decide) dJ7_startsWith_2_70 hl.1 (Nat.le_of_ble_eq_true rfl) hf (ct_S X (Or.inl rfl) q2834 q92 q2832 q2833 hy_J11_mismatch_2 np_J11_mismatch_2 rfl dJ7_startsWith_2_70) (fun q h he hX => a_out (unc_of Z.2.1 rfl) Z.2.2.2.1 he hX) (fun x70 h hf => ?kk70)
  refine AW.eq (g2 := F0 m 73 ls [.int x70]) rfl ?_
  refine AW.lift2 (fun _ _ _ _ k1 k2 => lv_if_ge (pc := 73) (tgt := 80) X.2.2.1 X.2.2.2.1 dJ7_startsWith_2_73 rfl k1 k2) (fun c => ?_) (fun c => ?_)
  · have hf := ite_t c hf
    refine AW.lift (fun _ _ _ _ k => lv_iconst (pc := 80) (v := (0 : Int32)) X.2.2.1 X.2.2.2.1 dJ7_startsWith_2_80 rfl k) ?_
    exact a_zreturn X Z.2.2.1 rfl Z.2.2.2.1 dJ7_startsWith_2_81 hf
  · have hf := ite_f c hf
    refine AW.lift (fun _ _ _ _ k => lv_iconst (pc := 76) (v := (1 : Int32)) X.2.2.1 X.2.2.2.1 dJ7_startsWith_2_76 rfl k) ?_
    refine AW.lift (fun _ _ _ _ k => lv_goto (pc := 77) (tgt := 81) X.2.2.1 X.2.2.2.1 dJ7_startsWith_2_77 rfl k) ?_
    exact a_zreturn X Z.2.2.1 rfl Z.2.2.2.1 dJ7_startsWith_2_81 hf
theorem w_J7_startsWith_2_b89 {r : Except Nat (Int32) × AH} (GA : GA l s0 a0 K lam) (Z : WZ l s0 a0 K p s m c cJ7_startsWith_2 yJ7_startsWith_2.cls 8 b R 2 40 meth [] (some (.boolean)) yJ7_startsWith_2) (v2 : Int32) (v3 : Option Nat) (v4 : Option Nat) (v5 : Int32) (v6 : Int32)  (rc89 : Int32 → Int32 → AM (Int32)) (hrc89 : ∀ (v2 : Int32) (v5 : Int32) (h : AH) (ls : Array Slot), LV ls 8 [(2, vI v2), (3, vR v3), (4, vR v4), (5, vI v5), (6, vI v6)] → rc89 v2 v5 h = some r → AW s0 K lam p l e R s m args below meth c (AQ s0 K lam below oI b r s) b h (F0 m 89 ls [])) {h : AH} {ls : Array Slot} (hl : LV ls 8 [(2, vI v2), (3, vR v3), (4, vR v4), (5, vI v5), (6, vI v6)]) (hf : f_J7_startsWith_2_b89 K rc89 v2 v3 v4 v5 v6 h = some r) : AW s0 K lam p l e R s m args below meth c (AQ s0 K lam below oI b r s) b h (F0 m 89 ls []) := by
  unfold f_J7_startsWith_2_b89 at hf
  have X := Z.1.1
  refine a_iload (pc := 89) X dJ7_startsWith_2_89 hl 3 rfl ?_
  refine a_iload (pc := 91) X dJ7_startsWith_2_91 hl 4 rfl ?_
  refine AW.lift2 (fun _ _ _ _ k1 k2 => lv_icmp_ge (pc := 93) (tgt := 121) X.2.2.1 X.2.2.2.1 dJ7_startsWith_2_93 rfl k1 k2) (fun c => ?_) (fun c => ?_)
  · have hf := ite_t c hf
    refine AW.lift (fun _ _ _ _ k => lv_iconst (pc := 121) (v := (1 : Int32)) X.2.2.1 X.2.2.2.1 dJ7_startsWith_2_121 rfl k) ?_
    exact a_zreturn X Z.2.2.1 rfl Z.2.2.2.1 dJ7_startsWith_2_122 hf
  · have hf := ite_f c hf
    refine a_aload_n (pc := 96) X dJ7_startsWith_2_96 rfl hl 1 rfl ?_
    refine a_iload_n (pc := 97) X dJ7_startsWith_2_97 rfl hl 0 rfl ?_
    refine a_iinc (pc := 98) (v := (v2 + (1 : Int32))) X dJ7_startsWith_2_98 hl (k := 0) rfl rfl (by decide) (lv' := [(2, vI (v2 + (1 : Int32))), (3, vR v3), (4, vR v4), (5, vI v5), (6, vI v6)]) rfl (fun ls hl => ?_)
    exact fl_no hf
theorem w_J7_startsWith_2_l89 {r : Except Nat (Int32) × AH} (GA : GA l s0 a0 K lam) (Z : WZ l s0 a0 K p s m c cJ7_startsWith_2 yJ7_startsWith_2.cls 8 b R 2 40 meth [] (some (.boolean)) yJ7_startsWith_2) (v3 : Option Nat) (v4 : Option Nat) (v6 : Int32)  : ∀ (n : Nat) (v2 : Int32) (v5 : Int32) (h : AH) (ls : Array Slot), LV ls 8 [(2, vI v2), (3, vR v3), (4, vR v4), (5, vI v5), (6, vI v6)] → f_J7_startsWith_2_l89 K v3 v4 v6 n v2 v5 h = some r → AW s0 K lam p l e R s m args below meth c (AQ s0 K lam below oI b r s) b h (F0 m 89 ls []) := by
  intro n
  induction n with
  | zero => intro v2 v5 h ls hl hf; exact fl_no (h := h) hf
  | succ n ih => intro v2 v5 h ls hl hf; exact w_J7_startsWith_2_b89 GA Z v2 v3 v4 v5 v6 (f_J7_startsWith_2_l89 K v3 v4 v6 n) ih hl hf
theorem np_J7_startsWith_2 : npar yJ7_startsWith_2.desc 2 := by unfold npar; decide +kernel
theorem hy_J7_startsWith_2 : yJ7_startsWith_2.cls ≠ "java/lang/invoke/MethodHandle" ∧ yJ7_startsWith_2.cls ≠ "java/lang/invoke/VarHandle" := by decide +kernel
theorem w_J7_startsWith_2 (GA : GA l s0 a0 K lam) (v0 : Option Nat) (v1 : Option Nat) (v2 : Int32) : AMet l s0 K lam yJ7_startsWith_2 (Cond.code yJ7_startsWith_2 cJ7_startsWith_2 (8 : Nat) (Option.some ClassFile.FieldType.boolean)) 2 40 [vR v0, vR v1, vI v2] oI (f_J7_startsWith_2 K v0 v1 v2) := by
  refine AMet.of GA.1 (plainFor_of_name (by decide +kernel)) (Nat.le_of_ble_eq_true rfl) ?_
  intro b r hf p e s m args below meth c X hr hlk hnm hnd ht ls hl
  have Z : WZ l s0 a0 K p s m c cJ7_startsWith_2 yJ7_startsWith_2.cls 8 b { frames := 2, cells := K 0 - aX b, slots := K 1 - aW b, locals := 40 } 2 40 meth [] (some (.boolean)) yJ7_startsWith_2 := ⟨⟨X, GA.2.1, GA.2.2.1, rfl, rfl, Nat.le_refl _, Nat.le_refl _⟩, tab_nil ht, hr, hlk, hnm, hnd⟩
  unfold f_J7_startsWith_2 at hf
  clear hr hlk hnm hnd ht
  refine a_iload_n (pc := 0) X dJ7_startsWith_2_0 rfl hl 2 rfl ?_
  refine AW.lift2 (fun _ _ _ _ k1 k2 => lv_if_lt (pc := 1) (tgt := 17) X.2.2.1 X.2.2.2.1 dJ7_startsWith_2_1 rfl k1 k2) (fun c => ?_) (fun c => ?_)
  · have hf := ite_t c hf
    refine AW.lift (fun _ _ _ _ k => lv_iconst (pc := 17) (v := (0 : Int32)) X.2.2.1 X.2.2.2.1 dJ7_startsWith_2_17 rfl k) ?_
    exact a_zreturn X Z.2.2.1 rfl Z.2.2.2.1 dJ7_startsWith_2_18 hf
  · have hf := ite_f c hf
    refine a_iload_n (pc := 4) X dJ7_startsWith_2_4 rfl hl 2 rfl ?_
    refine a_aload_n (pc := 5) X dJ7_startsWith_2_5 rfl hl 0 rfl ?_
    obtain ⟨a6, rfl, ⟨hk, hf⟩ | ⟨-, hf⟩⟩ := dv_some hf
    rotate_left
    · exact fl_none hf
    refine a_callb (pc := 6) (rs := [vI v2]) (avs := [vR (some a6)]) Z.1 (w_J7_length GA (some a6)) (Or.inl rfl) q622 q84 (by decide) (by decide) dJ7_startsWith_2_6 hl.1 (Nat.le_of_ble_eq_true rfl) hf (ct_V hk ⟨by decide, by decide⟩ X (Or.inl rfl) q622 q2831 q620 q621 hy_J7_length np_J7_length rfl dJ7_startsWith_2_6) (fun q h he hX => a_out (unc_of Z.2.1 rfl) Z.2.2.2.1 he hX) (fun x6 h hf => ?kk6)
    refine AW.eq (g2 := F0 m 9 ls [.int x6, .int v2]) rfl ?_
    refine a_aload_n (pc := 9) X dJ7_startsWith_2_9 rfl hl 1 rfl ?_
    obtain ⟨a10, rfl, ⟨hk, hf⟩ | ⟨-, hf⟩⟩ := dv_some hf
    rotate_left
    · exact fl_none hf
    refine a_callb (pc := 10) (rs := [vI x6, vI v2]) (avs := [vR (some a10)]) Z.1 (w_J7_length GA (some a10)) (Or.inl rfl) q622 q84 (by decide) (by decide) dJ7_startsWith_2_10 hl.1 (Nat.le_of_ble_eq_true rfl) hf (ct_V hk ⟨by decide, by decide⟩ X (Or.inl rfl) q622 q2831 q620 q621 hy_J7_length np_J7_length rfl dJ7_startsWith_2_10) (fun q h he hX => a_out (unc_of Z.2.1 rfl) Z.2.2.2.1 he hX) (fun x10 h hf => ?kk10)
    refine AW.eq (g2 := F0 m 13 ls [.int x10, .int x6, .int v2]) rfl ?_
    refine AW.lift (fun _ _ _ _ k => lv_isub (pc := 13) X.2.2.1 X.2.2.2.1 dJ7_startsWith_2_13 k) ?_
    refine AW.lift2 (fun _ _ _ _ k1 k2 => lv_icmp_le (pc := 14) (tgt := 19) X.2.2.1 X.2.2.2.1 dJ7_startsWith_2_14 rfl k1 k2) (fun c => ?_) (fun c => ?_)
    · have hf := ite_t c hf
      refine a_aload_n (pc := 19) X dJ7_startsWith_2_19 rfl hl 0 rfl ?_
      refine a_get (pc := 20) (φ := 3400) pR_t X Z.1.2.1 (gw X.1 X.2.1 q775) (fun _ q => q) (by decide) dJ7_startsWith_2_20 hf (fun x20 hf => ?_)
      refine a_astore_n (pc := 23) X dJ7_startsWith_2_23 rfl hl (by decide) (lv' := [(3, vR x20), (0, vR (some a6)), (1, vR (some a10)), (2, vI v2)]) rfl (fun ls hl => ?_)
      refine a_aload_n (pc := 24) X dJ7_startsWith_2_24 rfl hl 2 rfl ?_
      refine a_get (pc := 25) (φ := 3400) pR_t X Z.1.2.1 (gw X.1 X.2.1 q775) (fun _ q => q) (by decide) dJ7_startsWith_2_25 hf (fun x25 hf => ?_)
      refine a_astore (pc := 28) X dJ7_startsWith_2_28 hl (by decide) (lv' := [(4, vR x25), (3, vR x20), (0, vR (some a6)), (1, vR (some a10)), (2, vI v2)]) rfl (fun ls hl => ?_)
      refine AW.lift (fun _ _ _ _ k => lv_iconst (pc := 30) (v := (0 : Int32)) X.2.2.1 X.2.2.2.1 dJ7_startsWith_2_30 rfl k) ?_
      refine a_istore (pc := 31) X dJ7_startsWith_2_31 hl (by decide) (lv' := [(5, vI (0 : Int32)), (4, vR x25), (3, vR x20), (0, vR (some a6)), (1, vR (some a10)), (2, vI v2)]) rfl (fun ls hl => ?_)
      refine a_aload (pc := 33) X dJ7_startsWith_2_33 hl 1 rfl ?_
      refine a_arraylength (pc := 35) X dJ7_startsWith_2_35 hf (fun x35 hf => ?_)
      refine a_istore (pc := 36) X dJ7_startsWith_2_36 hl (by decide) (lv' := [(6, vI x35), (5, vI (0 : Int32)), (4, vR x25), (3, vR x20), (0, vR (some a6)), (1, vR (some a10)), (2, vI v2)]) rfl (fun ls hl => ?_)
      refine a_aload_n (pc := 38) X dJ7_startsWith_2_38 rfl hl 4 rfl ?_
      rcases dv_someS hf with ⟨hk, hf⟩ | ⟨-, hf⟩
      rotate_left
      · exact fl_none hf
      refine a_callb (pc := 39) (rs := []) (avs := [vR (some a6)]) Z.1 (w_J7_coder GA (some a6)) (Or.inl rfl) q626 q84 (by decide) (by decide) dJ7_startsWith_2_39 hl.1 (Nat.le_of_ble_eq_true rfl) hf (ct_V hk ⟨by decide, by decide⟩ X (Or.inl rfl) q626 q623 q624 q625 hy_J7_coder np_J7_coder rfl dJ7_startsWith_2_39) (fun q h he hX => a_out (unc_of Z.2.1 rfl) Z.2.2.2.1 he hX) (fun x39 h hf => ?kk39)
      refine AW.eq (g2 := F0 m 42 ls [.int x39]) rfl ?_
      refine a_istore (pc := 42) X dJ7_startsWith_2_42 hl (by decide) (lv' := [(7, vI x39), (6, vI x35), (5, vI (0 : Int32)), (4, vR x25), (3, vR x20), (0, vR (some a6)), (1, vR (some a10)), (2, vI v2)]) rfl (fun ls hl => ?_)
      refine a_iload (pc := 44) X dJ7_startsWith_2_44 hl 0 rfl ?_
      refine a_aload_n (pc := 46) X dJ7_startsWith_2_46 rfl hl 6 rfl ?_
      rcases dv_someS hf with ⟨hk, hf⟩ | ⟨-, hf⟩
      rotate_left
      · exact fl_none hf
      refine a_callb (pc := 47) (rs := [vI x39]) (avs := [vR (some a10)]) Z.1 (w_J7_coder GA (some a10)) (Or.inl rfl) q626 q84 (by decide) (by decide) dJ7_startsWith_2_47 hl.1 (Nat.le_of_ble_eq_true rfl) hf (ct_V hk ⟨by decide, by decide⟩ X (Or.inl rfl) q626 q623 q624 q625 hy_J7_coder np_J7_coder rfl dJ7_startsWith_2_47) (fun q h he hX => a_out (unc_of Z.2.1 rfl) Z.2.2.2.1 he hX) (fun x47 h hf => ?kk47)
      refine AW.eq (g2 := F0 m 50 ls [.int x47, .int x39]) rfl ?_
      refine AW.lift2 (fun _ _ _ _ k1 k2 => lv_icmp_ne (pc := 50) (tgt := 82) X.2.2.1 X.2.2.2.1 dJ7_startsWith_2_50 rfl k2 k1) (fun c => ?_) (fun c => ?_)
      · have hf := ite_t c hf
        refine a_iload (pc := 53) X dJ7_startsWith_2_53 hl 0 rfl ?_
        refine AW.lift (fun _ _ _ _ k => lv_iconst (pc := 55) (v := (1 : Int32)) X.2.2.1 X.2.2.2.1 dJ7_startsWith_2_55 rfl k) ?_
        refine AW.lift2 (fun _ _ _ _ k1 k2 => lv_icmp_ne (pc := 56) (tgt := 63) X.2.2.1 X.2.2.2.1 dJ7_startsWith_2_56 rfl k2 k1) (fun c => ?_) (fun c => ?_)
        · have hf := ite_t c hf
          refine a_iload_n (pc := 59) X dJ7_startsWith_2_59 rfl hl 7 rfl ?_
          refine AW.lift (fun _ _ _ _ k => lv_iconst (pc := 60) (v := (1 : Int32)) X.2.2.1 X.2.2.2.1 dJ7_startsWith_2_60 rfl k) ?_
          refine AW.lift (fun _ _ _ _ k => lv_ishl (pc := 61) X.2.2.1 X.2.2.2.1 dJ7_startsWith_2_61 k) ?_
          refine a_istore_n (pc := 62) X dJ7_startsWith_2_62 rfl hl (by decide) (lv' := [(2, vI (v2 <<< ((1 : Int32) &&& 31))), (7, vI x39), (6, vI x35), (5, vI (0 : Int32)), (4, vR x25), (3, vR x20), (0, vR (some a6)), (1, vR (some a10))]) rfl (fun ls hl => ?_)
          exact w_J7_startsWith_2_j63 GA Z (v2 <<< ((1 : Int32) &&& 31)) x20 x25 x35   (hl.sub [0, 5, 4, 2] rfl) hf
        · have hf := ite_f c hf
          exact w_J7_startsWith_2_j63 GA Z v2 x20 x25 x35   (hl.sub [7, 4, 3, 1] rfl) hf
      · have hf := ite_f c hf
        refine a_iload (pc := 82) X dJ7_startsWith_2_82 hl 0 rfl ?_
        refine AW.lift2 (fun _ _ _ _ k1 k2 => lv_if_ne (pc := 84) (tgt := 89) X.2.2.1 X.2.2.2.1 dJ7_startsWith_2_84 rfl k2 k1) (fun c => ?_) (fun c => ?_)
        · have hf := ite_t c hf
          refine AW.lift (fun _ _ _ _ k => lv_iconst (pc := 87) (v := (0 : Int32)) X.2.2.1 X.2.2.2.1 dJ7_startsWith_2_87 rfl k) ?_
          exact a_zreturn X Z.2.2.1 rfl Z.2.2.2.1 dJ7_startsWith_2_88 hf
        · have hf := ite_f c hf
          exact w_J7_startsWith_2_l89 GA Z x20 x25 x35  FU v2 (0 : Int32) _ _ (hl.sub [7, 4, 3, 2, 1] rfl) hf
    · have hf := ite_f c hf
      refine AW.lift (fun _ _ _ _ k => lv_iconst (pc := 17) (v := (0 : Int32)) X.2.2.1 X.2.2.2.1 dJ7_startsWith_2_17 rfl k) ?_
      exact a_zreturn X Z.2.2.1 rfl Z.2.2.2.1 dJ7_startsWith_2_18 hf
theorem np_J7_startsWith : npar yJ7_startsWith.desc 1 := by unfold npar; decide +kernel
theorem hy_J7_startsWith : yJ7_startsWith.cls ≠ "java/lang/invoke/MethodHandle" ∧ yJ7_startsWith.cls ≠ "java/lang/invoke/VarHandle" := by decide +kernel
theorem w_J7_startsWith (GA : GA l s0 a0 K lam) (v0 : Option Nat) (v1 : Option Nat) : AMet l s0 K lam yJ7_startsWith (Cond.code yJ7_startsWith cJ7_startsWith (2 : Nat) (Option.some ClassFile.FieldType.boolean)) 3 67 [vR v0, vR v1] oI (f_J7_startsWith K v0 v1) := by
  refine AMet.of GA.1 (plainFor_of_name (by decide +kernel)) (Nat.le_of_ble_eq_true rfl) ?_
  intro b r hf p e s m args below meth c X hr hlk hnm hnd ht ls hl
  have Z : WZ l s0 a0 K p s m c cJ7_startsWith yJ7_startsWith.cls 2 b { frames := 3, cells := K 0 - aX b, slots := K 1 - aW b, locals := 67 } 3 67 meth [] (some (.boolean)) yJ7_startsWith := ⟨⟨X, GA.2.1, GA.2.2.1, rfl, rfl, Nat.le_refl _, Nat.le_refl _⟩, tab_nil ht, hr, hlk, hnm, hnd⟩
  unfold f_J7_startsWith at hf
  clear hr hlk hnm hnd ht
  refine a_aload_n (pc := 0) X dJ7_startsWith_0 rfl hl 0 rfl ?_
  refine a_aload_n (pc := 1) X dJ7_startsWith_1 rfl hl 1 rfl ?_
  refine AW.lift (fun _ _ _ _ k => lv_iconst (pc := 2) (v := (0 : Int32)) X.2.2.1 X.2.2.2.1 dJ7_startsWith_2 rfl k) ?_
  obtain ⟨a3, rfl, ⟨hk, hf⟩ | ⟨-, hf⟩⟩ := dv_some hf
  rotate_left
  · exact fl_none hf
  refine a_callb (pc := 3) (rs := []) (avs := [vR (some a3), vR v1, vI (0 : Int32)]) Z.1 (w_J7_startsWith_2 GA (some a3) v1 (0 : Int32)) (Or.inl rfl) q2830 q84 (by decide) (by decide) dJ7_startsWith_3 hl.1 (Nat.le_of_ble_eq_true rfl) hf (ct_V hk ⟨by decide, by decide⟩ X (Or.inl rfl) q2830 q2827 q2828 q2829 hy_J7_startsWith_2 np_J7_startsWith_2 rfl dJ7_startsWith_3) (fun q h he hX => a_out (unc_of Z.2.1 rfl) Z.2.2.2.1 he hX) (fun x3 h hf => ?kk3)
  refine AW.eq (g2 := F0 m 6 ls [.int x3]) rfl ?_
  obtain ⟨hg, hf⟩ := chk_some hf
  exact a_zreturn X Z.2.2.1 hg Z.2.2.2.1 dJ7_startsWith_6 hf
theorem w_X11_isBegun_b7 {r : Except Nat (Int32) × AH} (GA : GA l s0 a0 K lam) (Z : WZ l s0 a0 K p s m c cX11_isBegun yX11_isBegun.cls 4 b R 4 88 meth [] (some (.boolean)) yX11_isBegun) (v1 : Option Nat) (v2 : Option Nat)  (rc7 : AM (Int32)) (hrc7 : ∀  (h : AH) (ls : Array Slot), LV ls 4 [(1, vR v1), (2, vR v2)] → rc7 h = some r → AW s0 K lam p l e R s m args below meth c (AQ s0 K lam below oI b r s) b h (F0 m 7 ls [])) {h : AH} {ls : Array Slot} (hl : LV ls 4 [(1, vR v1), (2, vR v2)]) (hf : f_X11_isBegun_b7 K rc7 v1 v2 h = some r) : AW s0 K lam p l e R s m args below meth c (AQ s0 K lam below oI b r s) b h (F0 m 7 ls []) := by
  unfold f_X11_isBegun_b7 at hf
  have X := Z.1.1
  refine a_aload_n (pc := 7) X dX11_isBegun_7 rfl hl 1 rfl ?_
  obtain ⟨a8, rfl, ⟨hk, hf⟩ | ⟨-, hf⟩⟩ := dv_some hf
  rotate_left
  · exact fl_none hf
  refine a_callb (pc := 8) (rs := []) (avs := [vR (some a8)]) Z.1 (w_J27_hasNext GA (some a8)) (Or.inl rfl) q388 q111 (by decide) (by decide) dX11_isBegun_8 hl.1 (Nat.le_of_ble_eq_true rfl) hf (ct_F (x := ({ cls := "java/util/Iterator", name := "hasNext", desc := "()Z" } : MethodName)) hk ⟨by decide, by decide⟩ X (Or.inl rfl) q388 q2819 (gf X.1 X.2.1 q370 rfl) (gf X.1 X.2.1 q369 rfl) (gf X.1 X.2.1 q387 rfl) (gf X.1 X.2.1 q385 rfl) (gf X.1 X.2.1 q383 rfl) q386 q384 ⟨by decide, by decide⟩ np_J27_hasNext rfl dX11_isBegun_8) (fun q h he hX => a_out (unc_of Z.2.1 rfl) Z.2.2.2.1 he hX) (fun x8 h hf => ?kk8)
  refine AW.eq (g2 := F0 m 13 ls [.int x8]) rfl ?_
  refine AW.lift2 (fun _ _ _ _ k1 k2 => lv_if_eq (pc := 13) (tgt := 39) X.2.2.1 X.2.2.2.1 dX11_isBegun_13 rfl k1 k2) (fun c => ?_) (fun c => ?_)
  · have hf := ite_t c hf
    refine AW.lift (fun _ _ _ _ k => lv_iconst (pc := 39) (v := (0 : Int32)) X.2.2.1 X.2.2.2.1 dX11_isBegun_39 rfl k) ?_
    exact a_zreturn X Z.2.2.1 rfl Z.2.2.2.1 dX11_isBegun_40 hf
  · have hf := ite_f c hf
    refine a_aload_n (pc := 16) X dX11_isBegun_16 rfl hl 1 rfl ?_
    rcases dv_someS hf with ⟨hk, hf⟩ | ⟨-, hf⟩
    rotate_left
    · exact fl_none hf
    refine a_callb (pc := 17) (rs := []) (avs := [vR (some a8)]) Z.1 (w_J27_next GA (some a8)) (Or.inr (Or.inl ⟨_, rfl⟩)) q495 q111 (by decide) (by decide) dX11_isBegun_17 hl.1 (Nat.le_of_ble_eq_true rfl) hf (ct_F (x := ({ cls := "java/util/Iterator", name := "next", desc := "()Ljava/lang/Object;" } : MethodName)) hk ⟨by decide, by decide⟩ X (Or.inr (Or.inl ⟨_, rfl⟩)) q495 q2821 (gf X.1 X.2.1 q392 rfl) (gf X.1 X.2.1 q391 rfl) (gf X.1 X.2.1 q494 rfl) (gf X.1 X.2.1 q492 rfl) (gf X.1 X.2.1 q383 rfl) q493 q491 ⟨by decide, by decide⟩ np_J27_next rfl dX11_isBegun_17) (fun q h he hX => a_out (unc_of Z.2.1 rfl) Z.2.2.2.1 he hX) (fun x17 h hf => ?kk17)
    refine AW.eq (g2 := F0 m 22 ls [va_rf x17]) rfl ?_
    refine a_checkcast (pc := 22) X (gw X.1 X.2.1 q2822) (cs_java_lang_String GA) dX11_isBegun_22 hf (fun hf => ?_)
    refine a_astore_n (pc := 25) X dX11_isBegun_25 rfl hl (by decide) (lv' := [(3, vR x17), (1, vR v1), (2, vR (some a8))]) rfl (fun ls hl => ?_)
    refine a_aload_n (pc := 26) X dX11_isBegun_26 rfl hl 0 rfl ?_
    refine a_aload_n (pc := 27) X dX11_isBegun_27 rfl hl 1 rfl ?_
    obtain ⟨a28, rfl, ⟨hk, hf⟩ | ⟨-, hf⟩⟩ := dv_some hf
    rotate_left
    · exact fl_none hf
    refine a_callb (pc := 28) (rs := []) (avs := [vR (some a28), vR v1]) Z.1 (w_J7_startsWith GA (some a28) v1) (Or.inl rfl) q2826 q84 (by decide) (by decide) dX11_isBegun_28 hl.1 (Nat.le_of_ble_eq_true rfl) hf (ct_V hk ⟨by decide, by decide⟩ X (Or.inl rfl) q2826 q2823 q2824 q2825 hy_J7_startsWith np_J7_startsWith rfl dX11_isBegun_28) (fun q h he hX => a_out (unc_of Z.2.1 rfl) Z.2.2.2.1 he hX) (fun x28 h hf => ?kk28)
    refine AW.eq (g2 := F0 m 31 ls [.int x28]) rfl ?_
    refine AW.lift2 (fun _ _ _ _ k1 k2 => lv_if_eq (pc := 31) (tgt := 36) X.2.2.1 X.2.2.2.1 dX11_isBegun_31 rfl k1 k2) (fun c => ?_) (fun c => ?_)
    · have hf := ite_t c hf
      refine AW.lift (fun _ _ _ _ k => lv_goto (pc := 36) (tgt := 7) X.2.2.1 X.2.2.2.1 dX11_isBegun_36 rfl k) ?_
      exact hrc7  _ _ (hl.sub [1, 2] rfl) hf
    · have hf := ite_f c hf
      refine AW.lift (fun _ _ _ _ k => lv_iconst (pc := 34) (v := (1 : Int32)) X.2.2.1 X.2.2.2.1 dX11_isBegun_34 rfl k) ?_
      exact a_zreturn X Z.2.2.1 rfl Z.2.2.2.1 dX11_isBegun_35 hf
theorem w_X11_isBegun_l7 {r : Except Nat (Int32) × AH} (GA : GA l s0 a0 K lam) (Z : WZ l s0 a0 K p s m c cX11_isBegun yX11_isBegun.cls 4 b R 4 88 meth [] (some (.boolean)) yX11_isBegun) (v1 : Option Nat) (v2 : Option Nat)  : ∀ (n : Nat)  (h : AH) (ls : Array Slot), LV ls 4 [(1, vR v1), (2, vR v2)] → f_X11_isBegun_l7 K v1 v2 n  h = some r → AW s0 K lam p l e R s m args below meth c (AQ s0 K lam below oI b r s) b h (F0 m 7 ls []) := by
  intro n
  induction n with
  | zero => intro  h ls hl hf; exact fl_no (h := h) hf
  | succ n ih => intro  h ls hl hf; exact w_X11_isBegun_b7 GA Z v1 v2 (f_X11_isBegun_l7 K v1 v2 n) ih hl hf
theorem np_X11_isBegun : npar yX11_isBegun.desc 2 := by unfold npar; decide +kernel
theorem hy_X11_isBegun : yX11_isBegun.cls ≠ "java/lang/invoke/MethodHandle" ∧ yX11_isBegun.cls ≠ "java/lang/invoke/VarHandle" := by decide +kernel
theorem w_X11_isBegun (GA : GA l s0 a0 K lam) (v0 : Option Nat) (v1 : Option Nat) : AMet l s0 K lam yX11_isBegun (Cond.code yX11_isBegun cX11_isBegun (4 : Nat) (Option.some ClassFile.FieldType.boolean)) 4 88 [vR v0, vR v1] oI (f_X11_isBegun K v0 v1) := by
  refine AMet.of GA.1 (plainFor_of_name (by decide +kernel)) (Nat.le_of_ble_eq_true rfl) ?_
  intro b r hf p e s m args below meth c X hr hlk hnm hnd ht ls hl
  have Z : WZ l s0 a0 K p s m c cX11_isBegun yX11_isBegun.cls 4 b { frames := 4, cells := K 0 - aX b, slots := K 1 - aW b, locals := 88 } 4 88 meth [] (some (.boolean)) yX11_isBegun := ⟨⟨X, GA.2.1, GA.2.2.1, rfl, rfl, Nat.le_refl _, Nat.le_refl _⟩, tab_nil ht, hr, hlk, hnm, hnd⟩
  unfold f_X11_isBegun at hf
  clear hr hlk hnm hnd ht
  refine a_aload_n (pc := 0) X dX11_isBegun_0 rfl hl 0 rfl ?_
  obtain ⟨a1, rfl, ⟨hk, hf⟩ | ⟨-, hf⟩⟩ := dv_some hf
  rotate_left
  · exact fl_none hf
  refine a_callb (pc := 1) (rs := []) (avs := [vR (some a1)]) Z.1 (w_J43_iterator GA (some a1)) (Or.inl rfl) q1050 q132 (by decide) (by decide) dX11_isBegun_1 hl.1 (Nat.le_of_ble_eq_true rfl) hf (ct_F (x := ({ cls := "java/util/List", name := "iterator", desc := "()Ljava/util/Iterator;" } : MethodName)) hk ⟨by decide, by decide⟩ X (Or.inl rfl) q1050 q2807 (gf X.1 X.2.1 q2809 rfl) (gf X.1 X.2.1 q2808 rfl) (gf X.1 X.2.1 q2815 rfl) (gf X.1 X.2.1 q2817 rfl) (gf X.1 X.2.1 q794 rfl) q1049 q2816 ⟨by decide, by decide⟩ np_J43_iterator rfl dX11_isBegun_1) (fun q h he hX => a_out (unc_of Z.2.1 rfl) Z.2.2.2.1 he hX) (fun x1 h hf => ?kk1)
  refine AW.eq (g2 := F0 m 6 ls [va_rf x1]) rfl ?_
  refine a_astore_n (pc := 6) X dX11_isBegun_6 rfl hl (by decide) (lv' := [(2, vR x1), (0, vR (some a1)), (1, vR v1)]) rfl (fun ls hl => ?_)
  exact w_X11_isBegun_l7 GA Z v1 x1  FU  _ _ (hl.sub [2, 0] rfl) hf
theorem np_X12_init : npar yX12_init.desc 1 := by unfold npar; decide +kernel
theorem hy_X12_init : yX12_init.cls ≠ "java/lang/invoke/MethodHandle" ∧ yX12_init.cls ≠ "java/lang/invoke/VarHandle" := by decide +kernel
theorem w_X12_init (GA : GA l s0 a0 K lam) (v0 : Option Nat) (v1 : Int32) : AMet l s0 K lam yX12_init (Cond.code yX12_init cX12_init (2 : Nat) (Option.none : Option ClassFile.FieldType)) 6 360 [vR v0, vI v1] oV (f_X12_init K v0 v1) := by
  refine AMet.of GA.1 (plainFor_of_name (by decide +kernel)) (Nat.le_of_ble_eq_true rfl) ?_
  intro b r hf p e s m args below meth c X hr hlk hnm hnd ht ls hl
  have Z : WZ l s0 a0 K p s m c cX12_init yX12_init.cls 2 b { frames := 6, cells := K 0 - aX b, slots := K 1 - aW b, locals := 360 } 6 360 meth [] none yX12_init := ⟨⟨X, GA.2.1, GA.2.2.1, rfl, rfl, Nat.le_refl _, Nat.le_refl _⟩, tab_nil ht, hr, hlk, hnm, hnd⟩
  unfold f_X12_init at hf
  clear hr hlk hnm hnd ht
  refine a_aload_n (pc := 0) X dX12_init_0 rfl hl 0 rfl ?_
  obtain ⟨a1, rfl, hf⟩ := nz_some hf
  refine a_callb (pc := 1) (rs := []) (avs := [vR (some a1)]) Z.1 (w_J10_init GA (some a1)) (Or.inl rfl) q459 q88 (by decide) (by decide) dX12_init_1 hl.1 (Nat.le_of_ble_eq_true rfl) hf (ct_I X q459 q2848 q458 rfl hy_J10_init np_J10_init rfl dX12_init_1) (fun q h he hX => a_out (unc_of Z.2.1 rfl) Z.2.2.2.1 he hX) (fun _ h hf => ?kk1)
  refine AW.eq (g2 := F0 m 4 ls []) rfl ?_
  refine a_aload_n (pc := 4) X dX12_init_4 rfl hl 0 rfl ?_
  refine a_iload_n (pc := 5) X dX12_init_5 rfl hl 1 rfl ?_
  refine a_putF (pc := 6) (φ := 1400) X Z.1.2.1 Z.1.2.2.1 (gw X.1 X.2.1 q2849) (fun _ q => q) (by decide) rfl Z.2.2.2.2.1 rfl rfl dX12_init_6 hf (fun h hf => ?_)
  exact a_return X Z.2.2.1 Z.2.2.2.1 dX12_init_9 hf
theorem w_X11_word_j57 {r : Except Nat (Option Nat) × AH} (GA : GA l s0 a0 K lam) (Z : WZ l s0 a0 K p s m c cX11_word yX11_word.cls 3 b R 12 381 meth [] (some (.object "java/lang/String")) yX11_word) (v0 : Option Nat)   {h : AH} {ls : Array Slot} (hl : LV ls 3 [(0, vR v0)]) (hf : f_X11_word_j57 K v0 h = some r) : AW s0 K lam p l e R s m args below meth c (AQ s0 K lam below oR b r s) b h (F0 m 57 ls []) := by
  unfold f_X11_word_j57 at hf
  have X := Z.1.1
  refine a_new (pc := 57) (cK := 14) (n := 7) X Z.1.2.1 Z.1.2.2.1 Z.1.2.2.2.1 Z.1.2.2.2.2.1 ⟨by decide, by decide, by decide⟩ (gw X.1 X.2.1 q2836) (gw X.1 X.2.1 q2837) (gw X.1 X.2.1 q135) dX11_word_57 hf (fun x57 h hf => ?_)
  refine AW.lift (fun _ _ _ _ k => lv_dup (pc := 60) X.2.2.1 X.2.2.2.1 dX11_word_60 (cat_rf _) k) ?_
  refine a_aload_n (pc := 61) X dX11_word_61 rfl hl 0 rfl ?_
  refine a_get (pc := 62) (φ := 903) pI_t X Z.1.2.1 (gw X.1 X.2.1 q2684) (fun _ q => q) (by decide) dX11_word_62 hf (fun x62 hf => ?_)
  refine a_callb (pc := 65) (rs := [vR (some x57)]) (avs := [vR (some x57), vI x62]) Z.1 (w_X12_init GA (some x57) x62) (Or.inl rfl) q2847 q135 (by decide) (by decide) dX11_word_65 hl.1 (Nat.le_of_ble_eq_true rfl) hf (ct_I X q2847 q2845 q2846 rfl hy_X12_init np_X12_init rfl dX11_word_65) (fun q h he hX => a_out (unc_of Z.2.1 rfl) Z.2.2.2.1 he hX) (fun _ h hf => ?kk65)
  refine AW.eq (g2 := F0 m 68 ls [va_rf (some x57)]) rfl ?_
  exact a_athrow X dX11_word_68 hf (fun q e he hX => a_out (unc_of Z.2.1 rfl) Z.2.2.2.1 he hX)
theorem w_X11_word_j82 {r : Except Nat (Option Nat) × AH} (GA : GA l s0 a0 K lam) (Z : WZ l s0 a0 K p s m c cX11_word yX11_word.cls 3 b R 12 381 meth [] (some (.object "java/lang/String")) yX11_word) (v2 : Option Nat)   {h : AH} {ls : Array Slot} (hl : LV ls 3 [(2, vR v2)]) (hf : f_X11_word_j82 K v2 h = some r) : AW s0 K lam p l e R s m args below meth c (AQ s0 K lam below oR b r s) b h (F0 m 82 ls []) := by
  unfold f_X11_word_j82 at hf
  have X := Z.1.1
  refine a_aload_n (pc := 82) X dX11_word_82 rfl hl 0 rfl ?_
  obtain ⟨a83, rfl, ⟨hk, hf⟩ | ⟨-, hf⟩⟩ := dv_some hf
  rotate_left
  · exact fl_none hf
  refine a_callb (pc := 83) (rs := []) (avs := [vR (some a83)]) Z.1 (w_J6_toString GA (some a83)) (Or.inl rfl) q700 q83 (by decide) (by decide) dX11_word_83 hl.1 (Nat.le_of_ble_eq_true rfl) hf (ct_V hk ⟨by decide, by decide⟩ X (Or.inl rfl) q700 q2767 q698 q699 hy_J6_toString np_J6_toString rfl dX11_word_83) (fun q h he hX => a_out (unc_of Z.2.1 rfl) Z.2.2.2.1 he hX) (fun x83 h hf => ?kk83)
  refine AW.eq (g2 := F0 m 86 ls [va_rf x83]) rfl ?_
  exact a_areturn X Z.2.2.1 (Or.inl ⟨_, rfl⟩) Z.2.2.2.1 dX11_word_86 hf
theorem w_X11_word_b26 {r : Except Nat (Option Nat) × AH} (GA : GA l s0 a0 K lam) (Z : WZ l s0 a0 K p s m c cX11_word yX11_word.cls 3 b R 12 381 meth [] (some (.object "java/lang/String")) yX11_word) (v0 : Option Nat) (v1 : Option Nat) (v2 : Option Nat)  (rc26 : AM (Option Nat)) (hrc26 : ∀  (h : AH) (ls : Array Slot), LV ls 3 [(0, vR v0), (1, vR v1), (2, vR v2)] → rc26 h = some r → AW s0 K lam p l e R s m args below meth c (AQ s0 K lam below oR b r s) b h (F0 m 26 ls [])) {h : AH} {ls : Array Slot} (hl : LV ls 3 [(0, vR v0), (1, vR v1), (2, vR v2)]) (hf : f_X11_word_b26 K rc26 v0 v1 v2 h = some r) : AW s0 K lam p l e R s m args below meth c (AQ s0 K lam below oR b r s) b h (F0 m 26 ls []) := by
  unfold f_X11_word_b26 at hf
  have X := Z.1.1
  refine a_aload_n (pc := 26) X dX11_word_26 rfl hl 1 rfl ?_
  refine a_aload_n (pc := 27) X dX11_word_27 rfl hl 2 rfl ?_
  obtain ⟨a28, rfl, ⟨hk, hf⟩ | ⟨-, hf⟩⟩ := dv_some hf
  rotate_left
  · exact fl_none hf
  refine a_callb (pc := 28) (rs := [vR v1]) (avs := [vR (some a28)]) Z.1 (w_J6_toString GA (some a28)) (Or.inl rfl) q700 q83 (by decide) (by decide) dX11_word_28 hl.1 (Nat.le_of_ble_eq_true rfl) hf (ct_V hk ⟨by decide, by decide⟩ X (Or.inl rfl) q700 q2767 q698 q699 hy_J6_toString np_J6_toString rfl dX11_word_28) (fun q h he hX => a_out (unc_of Z.2.1 rfl) Z.2.2.2.1 he hX) (fun x28 h hf => ?kk28)
  refine AW.eq (g2 := F0 m 31 ls [va_rf x28, va_rf v1]) rfl ?_
  obtain ⟨a31, rfl, ⟨hk, hf⟩ | ⟨-, hf⟩⟩ := dv_some hf
  rotate_left
  · exact fl_none hf
  refine a_callb (pc := 31) (rs := []) (avs := [vR (some a31), vR x28]) Z.1 (w_J43_contains GA (some a31) x28) (Or.inl rfl) q2782 q132 (by decide) (by decide) dX11_word_31 hl.1 (Nat.le_of_ble_eq_true rfl) hf (ct_F (x := ({ cls := "java/util/List", name := "contains", desc := "(Ljava/lang/Object;)Z" } : MethodName)) hk ⟨by decide, by decide⟩ X (Or.inl rfl) q2782 q2769 (gf X.1 X.2.1 q2771 rfl) (gf X.1 X.2.1 q2770 rfl) (gf X.1 X.2.1 q2781 rfl) (gf X.1 X.2.1 q2797 rfl) (gf X.1 X.2.1 q794 rfl) q2780 q2796 ⟨by decide, by decide⟩ np_J43_contains rfl dX11_word_31) (fun q h he hX => a_out (unc_of Z.2.1 rfl) Z.2.2.2.1 he hX) (fun x31 h hf => ?kk31)
  refine AW.eq (g2 := F0 m 36 ls [.int x31]) rfl ?_
  refine AW.lift2 (fun _ _ _ _ k1 k2 => lv_if_ne (pc := 36) (tgt := 82) X.2.2.1 X.2.2.2.1 dX11_word_36 rfl k2 k1) (fun c => ?_) (fun c => ?_)
  · have hf := ite_t c hf
    refine a_aload_n (pc := 39) X dX11_word_39 rfl hl 1 rfl ?_
    refine a_aload_n (pc := 40) X dX11_word_40 rfl hl 2 rfl ?_
    refine a_aload_n (pc := 41) X dX11_word_41 rfl hl 0 rfl ?_
    obtain ⟨a42, rfl, ⟨hk, hf⟩ | ⟨-, hf⟩⟩ := dv_some hf
    rotate_left
    · exact fl_none hf
    refine a_callb (pc := 42) (rs := [vR (some a28), vR (some a31)]) (avs := [vR (some a42)]) Z.1 (w_X11_peek GA (some a42)) (Or.inl rfl) q2801 q129 (by decide) (by decide) dX11_word_42 hl.1 (Nat.le_of_ble_eq_true rfl) hf (ct_V hk ⟨by decide, by decide⟩ X (Or.inl rfl) q2801 q2798 q2800 pv_17 hy_X11_peek np_X11_peek rfl dX11_word_42) (fun q h he hX => a_out (unc_of Z.2.1 rfl) Z.2.2.2.1 he hX) (fun x42 h hf => ?kk42)
    refine AW.eq (g2 := F0 m 45 ls [.int x42, va_rf (some a28), va_rf (some a31)]) rfl ?_
    rcases dv_someS hf with ⟨hk, hf⟩ | ⟨-, hf⟩
    rotate_left
    · exact fl_none hf
    refine a_callb (pc := 45) (rs := [vR (some a31)]) (avs := [vR (some a28), vI x42]) Z.1 (w_J6_append_3 GA (some a28) x42) (Or.inl rfl) q2541 q83 (by decide) (by decide) dX11_word_45 hl.1 (Nat.le_of_ble_eq_true rfl) hf (ct_V hk ⟨by decide, by decide⟩ X (Or.inl rfl) q2541 q2802 q2539 q2540 hy_J6_append_3 np_J6_append_3 rfl dX11_word_45) (fun q h he hX => a_out (unc_of Z.2.1 rfl) Z.2.2.2.1 he hX) (fun x45 h hf => ?kk45)
    refine AW.eq (g2 := F0 m 48 ls [va_rf x45, va_rf (some a31)]) rfl ?_
    obtain ⟨a48, rfl, ⟨hk, hf⟩ | ⟨-, hf⟩⟩ := dv_some hf
    rotate_left
    · exact fl_none hf
    refine a_callb (pc := 48) (rs := [vR (some a31)]) (avs := [vR (some a48)]) Z.1 (w_J6_toString GA (some a48)) (Or.inl rfl) q700 q83 (by decide) (by decide) dX11_word_48 hl.1 (Nat.le_of_ble_eq_true rfl) hf (ct_V hk ⟨by decide, by decide⟩ X (Or.inl rfl) q700 q2767 q698 q699 hy_J6_toString np_J6_toString rfl dX11_word_48) (fun q h he hX => a_out (unc_of Z.2.1 rfl) Z.2.2.2.1 he hX) (fun x48 h hf => ?kk48)
    refine AW.eq (g2 := F0 m 51 ls [va_rf x48, va_rf (some a31)]) rfl ?_
    refine a_callb (pc := 51) (rs := []) (avs := [vR (some a31), vR x48]) Z.1 (w_X11_isBegun GA (some a31) x48) (Or.inl rfl) q2805 q129 (by decide) (by decide) dX11_word_51 hl.1 (Nat.le_of_ble_eq_true rfl) hf (ct_S X (Or.inl rfl) q2805 q129 q2803 q2804 hy_X11_isBegun np_X11_isBegun rfl dX11_word_51) (fun q h he hX => a_out (unc_of Z.2.1 rfl) Z.2.2.2.1 he hX) (fun x51 h hf => ?kk51)
    refine AW.eq (g2 := F0 m 54 ls [.int x51]) rfl ?_
    refine AW.lift2 (fun _ _ _ _ k1 k2 => lv_if_ne (pc := 54) (tgt := 69) X.2.2.1 X.2.2.2.1 dX11_word_54 rfl k2 k1) (fun c => ?_) (fun c => ?_)
    · have hf := ite_t c hf
      exact w_X11_word_j57 GA Z (some a42)   (hl.sub [0] rfl) hf
    · have hf := ite_f c hf
      refine a_aload_n (pc := 69) X dX11_word_69 rfl hl 0 rfl ?_
      refine AW.lift (fun _ _ _ _ k => lv_dup (pc := 70) X.2.2.1 X.2.2.2.1 dX11_word_70 (cat_rf _) k) ?_
      refine a_get (pc := 71) (φ := 903) pI_t X Z.1.2.1 (gw X.1 X.2.1 q2684) (fun _ q => q) (by decide) dX11_word_71 hf (fun x71 hf => ?_)
      refine AW.lift (fun _ _ _ _ k => lv_iconst (pc := 74) (v := (1 : Int32)) X.2.2.1 X.2.2.2.1 dX11_word_74 rfl k) ?_
      refine AW.lift (fun _ _ _ _ k => lv_iadd (pc := 75) X.2.2.1 X.2.2.2.1 dX11_word_75 k) ?_
      refine a_put (pc := 76) (φ := 903) X Z.1.2.1 Z.1.2.2.1 (gw X.1 X.2.1 q2684) (fun _ q => q) (by decide) rfl rfl dX11_word_76 hf (fun h hf => ?_)
      refine AW.lift (fun _ _ _ _ k => lv_goto (pc := 79) (tgt := 26) X.2.2.1 X.2.2.2.1 dX11_word_79 rfl k) ?_
      exact hrc26  _ _ (hl.sub [0, 1, 2] rfl) hf
  · have hf := ite_f c hf
    exact w_X11_word_j82 GA Z (some a28)   (hl.sub [2] rfl) hf
theorem w_X11_word_l26 {r : Except Nat (Option Nat) × AH} (GA : GA l s0 a0 K lam) (Z : WZ l s0 a0 K p s m c cX11_word yX11_word.cls 3 b R 12 381 meth [] (some (.object "java/lang/String")) yX11_word) (v0 : Option Nat) (v1 : Option Nat) (v2 : Option Nat)  : ∀ (n : Nat)  (h : AH) (ls : Array Slot), LV ls 3 [(0, vR v0), (1, vR v1), (2, vR v2)] → f_X11_word_l26 K v0 v1 v2 n  h = some r → AW s0 K lam p l e R s m args below meth c (AQ s0 K lam below oR b r s) b h (F0 m 26 ls []) := by
  intro n
  induction n with
  | zero => intro  h ls hl hf; exact fl_no (h := h) hf
  | succ n ih => intro  h ls hl hf; exact w_X11_word_b26 GA Z v0 v1 v2 (f_X11_word_l26 K v0 v1 v2 n) ih hl hf
theorem np_X11_word : npar yX11_word.desc 0 := by unfold npar; decide +kernel
theorem hy_X11_word : yX11_word.cls ≠ "java/lang/invoke/MethodHandle" ∧ yX11_word.cls ≠ "java/lang/invoke/VarHandle" := by decide +kernel
theorem w_X11_word (GA : GA l s0 a0 K lam) (v0 : Option Nat) : AMet l s0 K lam yX11_word (Cond.code yX11_word cX11_word (3 : Nat) (Option.some (ClassFile.FieldType.object "java/lang/String"))) 12 381 [vR v0] oR (f_X11_word K v0) := by
  refine AMet.of GA.1 (plainFor_of_name (by decide +kernel)) (Nat.le_of_ble_eq_true rfl) ?_
  intro b r hf p e s m args below meth c X hr hlk hnm hnd ht ls hl
  have Z : WZ l s0 a0 K p s m c cX11_word yX11_word.cls 3 b { frames := 12, cells := K 0 - aX b, slots := K 1 - aW b, locals := 381 } 12 381 meth [] (some (.object "java/lang/String")) yX11_word := ⟨⟨X, GA.2.1, GA.2.2.1, rfl, rfl, Nat.le_refl _, Nat.le_refl _⟩, tab_nil ht, hr, hlk, hnm, hnd⟩
  unfold f_X11_word at hf
  clear hr hlk hnm hnd ht
  refine a_ldcS (pc := 0) X (vk_R.warm X.2.1 (sr_P_67 GA)) dX11_word_0 ?_
  refine a_ldcS (pc := 2) X (vk_R.warm X.2.1 (sr_P_69 GA)) dX11_word_2 ?_
  refine a_ldcS (pc := 4) X (vk_R.warm X.2.1 (sr_P_71 GA)) dX11_word_4 ?_
  refine a_ldcS (pc := 6) X (vk_R.warm X.2.1 (sr_P_73 GA)) dX11_word_6 ?_
  refine a_ldcS (pc := 8) X (vk_R.warm X.2.1 (sr_P_75 GA)) dX11_word_8 ?_
  refine a_ldcS (pc := 10) X (vk_R.warm X.2.1 (sr_P_77 GA)) dX11_word_10 ?_
  refine a_ldcS (pc := 12) X (vk_R.warm X.2.1 (sr_P_79 GA)) dX11_word_12 ?_
  refine a_callb (pc := 14) (rs := []) (avs := [vR (some (K 14)), vR (some (K 15)), vR (some (K 16)), vR (some (K 17)), vR (some (K 18)), vR (some (K 19)), vR (some (K 20))]) Z.1 (w_J41_of GA (some (K 14)) (some (K 15)) (some (K 16)) (some (K 17)) (some (K 18)) (some (K 19)) (some (K 20))) (Or.inl rfl) q2715 q130 (by decide) (by decide) dX11_word_14 hl.1 (Nat.le_of_ble_eq_true rfl) hf (ct_S X (Or.inl rfl) q2715 q130 q2713 q2714 hy_J41_of np_J41_of rfl dX11_word_14) (fun q h he hX => a_out (unc_of Z.2.1 rfl) Z.2.2.2.1 he hX) (fun x14 h hf => ?kk14)
  refine AW.eq (g2 := F0 m 17 ls [va_rf x14]) rfl ?_
  refine a_astore_n (pc := 17) X dX11_word_17 rfl hl (by decide) (lv' := [(1, vR x14), (0, vR v0)]) rfl (fun ls hl => ?_)
  refine a_new (pc := 18) (cK := 36) (n := 4) X Z.1.2.1 Z.1.2.2.1 Z.1.2.2.2.1 Z.1.2.2.2.2.1 ⟨by decide, by decide, by decide⟩ (gw X.1 X.2.1 q2765) (gw X.1 X.2.1 q276) (gw X.1 X.2.1 q83) dX11_word_18 hf (fun x18 h hf => ?_)
  refine AW.lift (fun _ _ _ _ k => lv_dup (pc := 21) X.2.2.1 X.2.2.2.1 dX11_word_21 (cat_rf _) k) ?_
  refine a_callb (pc := 22) (rs := [vR (some x18)]) (avs := [vR (some x18)]) Z.1 (w_J6_init GA (some x18)) (Or.inl rfl) q279 q83 (by decide) (by decide) dX11_word_22 hl.1 (Nat.le_of_ble_eq_true rfl) hf (ct_I X q279 q2766 q278 rfl hy_J6_init np_J6_init rfl dX11_word_22) (fun q h he hX => a_out (unc_of Z.2.1 rfl) Z.2.2.2.1 he hX) (fun _ h hf => ?kk22)
  refine AW.eq (g2 := F0 m 25 ls [va_rf (some x18)]) rfl ?_
  refine a_astore_n (pc := 25) X dX11_word_25 rfl hl (by decide) (lv' := [(2, vR (some x18)), (1, vR x14), (0, vR v0)]) rfl (fun ls hl => ?_)
  exact w_X11_word_l26 GA Z v0 x14 (some x18)  FU  _ _ (hl.sub [2, 1, 0] rfl) hf
theorem np_X11_next : npar yX11_next.desc 2 := by unfold npar; decide +kernel
theorem hy_X11_next : yX11_next.cls ≠ "java/lang/invoke/MethodHandle" ∧ yX11_next.cls ≠ "java/lang/invoke/VarHandle" := by decide +kernel
theorem w_X11_next (GA : GA l s0 a0 K lam) (v0 : Option Nat) (v1 : Int32) (v2 : Int32) : AMet l s0 K lam yX11_next (Cond.code yX11_next cX11_next (3 : Nat) (Option.some ClassFile.FieldType.int)) 7 381 [vR v0, vI v1, vI v2] oI (f_X11_next K v0 v1 v2) := by
  refine AMet.of GA.1 (plainFor_of_name (by decide +kernel)) (Nat.le_of_ble_eq_true rfl) ?_
  intro b r hf p e s m args below meth c X hr hlk hnm hnd ht ls hl
  have Z : WZ l s0 a0 K p s m c cX11_next yX11_next.cls 3 b { frames := 7, cells := K 0 - aX b, slots := K 1 - aW b, locals := 381 } 7 381 meth [] (some (.int)) yX11_next := ⟨⟨X, GA.2.1, GA.2.2.1, rfl, rfl, Nat.le_refl _, Nat.le_refl _⟩, tab_nil ht, hr, hlk, hnm, hnd⟩
  unfold f_X11_next at hf
  clear hr hlk hnm hnd ht
  refine a_aload_n (pc := 0) X dX11_next_0 rfl hl 0 rfl ?_
  obtain ⟨a1, rfl, ⟨hk, hf⟩ | ⟨-, hf⟩⟩ := dv_some hf
  rotate_left
  · exact fl_none hf
  refine a_callb (pc := 1) (rs := []) (avs := [vR (some a1)]) Z.1 (w_X11_peek GA (some a1)) (Or.inl rfl) q2801 q129 (by decide) (by decide) dX11_next_1 hl.1 (Nat.le_of_ble_eq_true rfl) hf (ct_V hk ⟨by decide, by decide⟩ X (Or.inl rfl) q2801 q2798 q2800 pv_17 hy_X11_peek np_X11_peek rfl dX11_next_1) (fun q h he hX => a_out (unc_of Z.2.1 rfl) Z.2.2.2.1 he hX) (fun x1 h hf => ?kk1)
  refine AW.eq (g2 := F0 m 4 ls [.int x1]) rfl ?_
  refine a_iload_n (pc := 4) X dX11_next_4 rfl hl 1 rfl ?_
  refine a_iload_n (pc := 5) X dX11_next_5 rfl hl 2 rfl ?_
  refine a_callb (pc := 6) (rs := []) (avs := [vI x1, vI v1, vI v2]) Z.1 (w_X1_isIn GA x1 v1 v2) (Or.inl rfl) q1812 q74 (by decide) (by decide) dX11_next_6 hl.1 (Nat.le_of_ble_eq_true rfl) hf (ct_SN X (Or.inl rfl) q1812 q74 q2863 q1811 hy_X1_isIn np_X1_isIn rfl dX11_next_6) (fun q h he hX => a_out (unc_of Z.2.1 rfl) Z.2.2.2.1 he hX) (fun x6 h hf => ?kk6)
  refine AW.eq (g2 := F0 m 9 ls [.int x6]) rfl ?_
  refine AW.lift2 (fun _ _ _ _ k1 k2 => lv_if_ne (pc := 9) (tgt := 24) X.2.2.1 X.2.2.2.1 dX11_next_9 rfl k2 k1) (fun c => ?_) (fun c => ?_)
  · have hf := ite_t c hf
    refine a_new (pc := 12) (cK := 14) (n := 7) X Z.1.2.1 Z.1.2.2.1 Z.1.2.2.2.1 Z.1.2.2.2.2.1 ⟨by decide, by decide, by decide⟩ (gw X.1 X.2.1 q2836) (gw X.1 X.2.1 q2837) (gw X.1 X.2.1 q135) dX11_next_12 hf (fun x12 h hf => ?_)
    refine AW.lift (fun _ _ _ _ k => lv_dup (pc := 15) X.2.2.1 X.2.2.2.1 dX11_next_15 (cat_rf _) k) ?_
    refine a_aload_n (pc := 16) X dX11_next_16 rfl hl 0 rfl ?_
    refine a_get (pc := 17) (φ := 903) pI_t X Z.1.2.1 (gw X.1 X.2.1 q2684) (fun _ q => q) (by decide) dX11_next_17 hf (fun x17 hf => ?_)
    refine a_callb (pc := 20) (rs := [vR (some x12)]) (avs := [vR (some x12), vI x17]) Z.1 (w_X12_init GA (some x12) x17) (Or.inl rfl) q2847 q135 (by decide) (by decide) dX11_next_20 hl.1 (Nat.le_of_ble_eq_true rfl) hf (ct_I X q2847 q2845 q2846 rfl hy_X12_init np_X12_init rfl dX11_next_20) (fun q h he hX => a_out (unc_of Z.2.1 rfl) Z.2.2.2.1 he hX) (fun _ h hf => ?kk20)
    refine AW.eq (g2 := F0 m 23 ls [va_rf (some x12)]) rfl ?_
    exact a_athrow X dX11_next_23 hf (fun q e he hX => a_out (unc_of Z.2.1 rfl) Z.2.2.2.1 he hX)
  · have hf := ite_f c hf
    refine a_aload_n (pc := 24) X dX11_next_24 rfl hl 0 rfl ?_
    refine AW.lift (fun _ _ _ _ k => lv_dup (pc := 25) X.2.2.1 X.2.2.2.1 dX11_next_25 (cat_rf _) k) ?_
    refine a_get (pc := 26) (φ := 903) pI_t X Z.1.2.1 (gw X.1 X.2.1 q2684) (fun _ q => q) (by decide) dX11_next_26 hf (fun x26 hf => ?_)
    refine AW.lift (fun _ _ _ _ k => lv_iconst (pc := 29) (v := (1 : Int32)) X.2.2.1 X.2.2.2.1 dX11_next_29 rfl k) ?_
    refine AW.lift (fun _ _ _ _ k => lv_iadd (pc := 30) X.2.2.1 X.2.2.2.1 dX11_next_30 k) ?_
    refine a_put (pc := 31) (φ := 903) X Z.1.2.1 Z.1.2.2.1 (gw X.1 X.2.1 q2684) (fun _ q => q) (by decide) rfl rfl dX11_next_31 hf (fun h hf => ?_)
    refine a_aload_n (pc := 34) X dX11_next_34 rfl hl 0 rfl ?_
    refine a_get (pc := 35) (φ := 900) pR_t X Z.1.2.1 (gw X.1 X.2.1 q2681) (fun _ q => q) (by decide) dX11_next_35 hf (fun x35 hf => ?_)
    refine a_aload_n (pc := 38) X dX11_next_38 rfl hl 0 rfl ?_
    refine a_get (pc := 39) (φ := 903) pI_t X Z.1.2.1 (gw X.1 X.2.1 q2684) (fun _ q => q) (by decide) dX11_next_39 hf (fun x39 hf => ?_)
    refine AW.lift (fun _ _ _ _ k => lv_iconst (pc := 42) (v := (1 : Int32)) X.2.2.1 X.2.2.2.1 dX11_next_42 rfl k) ?_
    refine AW.lift (fun _ _ _ _ k => lv_isub (pc := 43) X.2.2.1 X.2.2.2.1 dX11_next_43 k) ?_
    refine a_caload (pc := 44) X dX11_next_44 hf (fun x44 hf => ?_)
    refine AW.lift (fun _ _ _ _ k => lv_bipush (pc := 45) (v := (48 : Int32)) X.2.2.1 X.2.2.2.1 dX11_next_45 rfl k) ?_
    refine AW.lift (fun _ _ _ _ k => lv_isub (pc := 47) X.2.2.1 X.2.2.2.1 dX11_next_47 k) ?_
    exact a_ireturn X Z.2.2.1 Z.2.2.2.1 dX11_next_48 hf
theorem np_X11_number : npar yX11_number.desc 0 := by unfold npar; decide +kernel
theorem hy_X11_number : yX11_number.cls ≠ "java/lang/invoke/MethodHandle" ∧ yX11_number.cls ≠ "java/lang/invoke/VarHandle" := by decide +kernel
theorem w_X11_number (GA : GA l s0 a0 K lam) (v0 : Option Nat) : AMet l s0 K lam yX11_number (Cond.code yX11_number cX11_number (3 : Nat) (Option.some ClassFile.FieldType.int)) 8 403 [vR v0] oI (f_X11_number K v0) := by
  refine AMet.of GA.1 (plainFor_of_name (by decide +kernel)) (Nat.le_of_ble_eq_true rfl) ?_
  intro b r hf p e s m args below meth c X hr hlk hnm hnd ht ls hl
  have Z : WZ l s0 a0 K p s m c cX11_number yX11_number.cls 3 b { frames := 8, cells := K 0 - aX b, slots := K 1 - aW b, locals := 403 } 8 403 meth [] (some (.int)) yX11_number := ⟨⟨X, GA.2.1, GA.2.2.1, rfl, rfl, Nat.le_refl _, Nat.le_refl _⟩, tab_nil ht, hr, hlk, hnm, hnd⟩
  unfold f_X11_number at hf
  clear hr hlk hnm hnd ht
  refine a_aload_n (pc := 0) X dX11_number_0 rfl hl 0 rfl ?_
  refine AW.lift (fun _ _ _ _ k => lv_bipush (pc := 1) (v := (32 : Int32)) X.2.2.1 X.2.2.2.1 dX11_number_1 rfl k) ?_
  refine AW.lift (fun _ _ _ _ k => lv_bipush (pc := 3) (v := (32 : Int32)) X.2.2.1 X.2.2.2.1 dX11_number_3 rfl k) ?_
  obtain ⟨a5, rfl, ⟨hk, hf⟩ | ⟨-, hf⟩⟩ := dv_some hf
  rotate_left
  · exact fl_none hf
  refine a_callb (pc := 5) (rs := []) (avs := [vR (some a5), vI (32 : Int32), vI (32 : Int32)]) Z.1 (w_X11_next GA (some a5) (32 : Int32) (32 : Int32)) (Or.inl rfl) q2862 q129 (by decide) (by decide) dX11_number_5 hl.1 (Nat.le_of_ble_eq_true rfl) hf (ct_V hk ⟨by decide, by decide⟩ X (Or.inl rfl) q2862 q2859 q2861 pv_19 hy_X11_next np_X11_next rfl dX11_number_5) (fun q h he hX => a_out (unc_of Z.2.1 rfl) Z.2.2.2.1 he hX) (fun x5 h hf => ?kk5)
  refine AW.eq (g2 := F0 m 8 ls [.int x5]) rfl ?_
  refine a_istore_n (pc := 8) X dX11_number_8 rfl hl (by decide) (lv' := [(1, vI x5), (0, vR (some a5))]) rfl (fun ls hl => ?_)
  refine a_aload_n (pc := 9) X dX11_number_9 rfl hl 1 rfl ?_
  refine AW.lift (fun _ _ _ _ k => lv_bipush (pc := 10) (v := (48 : Int32)) X.2.2.1 X.2.2.2.1 dX11_number_10 rfl k) ?_
  refine AW.lift (fun _ _ _ _ k => lv_bipush (pc := 12) (v := (57 : Int32)) X.2.2.1 X.2.2.2.1 dX11_number_12 rfl k) ?_
  rcases dv_someS hf with ⟨hk, hf⟩ | ⟨-, hf⟩
  rotate_left
  · exact fl_none hf
  refine a_callb (pc := 14) (rs := []) (avs := [vR (some a5), vI (48 : Int32), vI (57 : Int32)]) Z.1 (w_X11_next GA (some a5) (48 : Int32) (57 : Int32)) (Or.inl rfl) q2862 q129 (by decide) (by decide) dX11_number_14 hl.1 (Nat.le_of_ble_eq_true rfl) hf (ct_V hk ⟨by decide, by decide⟩ X (Or.inl rfl) q2862 q2859 q2861 pv_19 hy_X11_next np_X11_next rfl dX11_number_14) (fun q h he hX => a_out (unc_of Z.2.1 rfl) Z.2.2.2.1 he hX) (fun x14 h hf => ?kk14)
  refine AW.eq (g2 := F0 m 17 ls [.int x14]) rfl ?_
  refine a_istore_n (pc := 17) X dX11_number_17 rfl hl (by decide) (lv' := [(2, vI x14), (1, vI x5), (0, vR (some a5))]) rfl (fun ls hl => ?_)
  refine a_aload_n (pc := 18) X dX11_number_18 rfl hl 2 rfl ?_
  rcases dv_someS hf with ⟨hk, hf⟩ | ⟨-, hf⟩
  rotate_left
  · exact fl_none hf
  refine a_callb (pc := 19) (rs := []) (avs := [vR (some a5)]) Z.1 (w_X11_peek GA (some a5)) (Or.inl rfl) q2801 q129 (by decide) (by decide) dX11_number_19 hl.1 (Nat.le_of_ble_eq_true rfl) hf (ct_V hk ⟨by decide, by decide⟩ X (Or.inl rfl) q2801 q2798 q2800 pv_17 hy_X11_peek np_X11_peek rfl dX11_number_19) (fun q h he hX => a_out (unc_of Z.2.1 rfl) Z.2.2.2.1 he hX) (fun x19 h hf => ?kk19)
  refine AW.eq (g2 := F0 m 22 ls [.int x19]) rfl ?_
  refine AW.lift (fun _ _ _ _ k => lv_bipush (pc := 22) (v := (48 : Int32)) X.2.2.1 X.2.2.2.1 dX11_number_22 rfl k) ?_
  refine AW.lift (fun _ _ _ _ k => lv_bipush (pc := 24) (v := (57 : Int32)) X.2.2.1 X.2.2.2.1 dX11_number_24 rfl k) ?_
  refine a_callb (pc := 26) (rs := []) (avs := [vI x19, vI (48 : Int32), vI (57 : Int32)]) Z.1 (w_X1_isIn GA x19 (48 : Int32) (57 : Int32)) (Or.inl rfl) q1812 q74 (by decide) (by decide) dX11_number_26 hl.1 (Nat.le_of_ble_eq_true rfl) hf (ct_SN X (Or.inl rfl) q1812 q74 q2863 q1811 hy_X1_isIn np_X1_isIn rfl dX11_number_26) (fun q h he hX => a_out (unc_of Z.2.1 rfl) Z.2.2.2.1 he hX) (fun x26 h hf => ?kk26)
  refine AW.eq (g2 := F0 m 29 ls [.int x26]) rfl ?_
  refine AW.lift2 (fun _ _ _ _ k1 k2 => lv_if_eq (pc := 29) (tgt := 48) X.2.2.1 X.2.2.2.1 dX11_number_29 rfl k1 k2) (fun c => ?_) (fun c => ?_)
  · have hf := ite_t c hf
    refine a_iload_n (pc := 48) X dX11_number_48 rfl hl 0 rfl ?_
    exact a_ireturn X Z.2.2.1 Z.2.2.2.1 dX11_number_49 hf
  · have hf := ite_f c hf
    refine AW.lift (fun _ _ _ _ k => lv_bipush (pc := 32) (v := (10 : Int32)) X.2.2.1 X.2.2.2.1 dX11_number_32 rfl k) ?_
    refine a_iload_n (pc := 34) X dX11_number_34 rfl hl 0 rfl ?_
    refine AW.lift (fun _ _ _ _ k => lv_imul (pc := 35) X.2.2.1 X.2.2.2.1 dX11_number_35 k) ?_
    refine a_aload_n (pc := 36) X dX11_number_36 rfl hl 2 rfl ?_
    refine AW.lift (fun _ _ _ _ k => lv_bipush (pc := 37) (v := (48 : Int32)) X.2.2.1 X.2.2.2.1 dX11_number_37 rfl k) ?_
    refine AW.lift (fun _ _ _ _ k => lv_bipush (pc := 39) (v := (57 : Int32)) X.2.2.1 X.2.2.2.1 dX11_number_39 rfl k) ?_
    rcases dv_someS hf with ⟨hk, hf⟩ | ⟨-, hf⟩
    rotate_left
    · exact fl_none hf
    refine a_callb (pc := 41) (rs := [vI ((10 : Int32) * x14)]) (avs := [vR (some a5), vI (48 : Int32), vI (57 : Int32)]) Z.1 (w_X11_next GA (some a5) (48 : Int32) (57 : Int32)) (Or.inl rfl) q2862 q129 (by decide) (by decide) dX11_number_41 hl.1 (Nat.le_of_ble_eq_true rfl) hf (ct_V hk ⟨by decide, by decide⟩ X (Or.inl rfl) q2862 q2859 q2861 pv_19 hy_X11_next np_X11_next rfl dX11_number_41) (fun q h he hX => a_out (unc_of Z.2.1 rfl) Z.2.2.2.1 he hX) (fun x41 h hf => ?kk41)
    refine AW.eq (g2 := F0 m 44 ls [.int x41, .int ((10 : Int32) * x14)]) rfl ?_
    refine AW.lift (fun _ _ _ _ k => lv_iadd (pc := 44) X.2.2.1 X.2.2.2.1 dX11_number_44 k) ?_
    refine AW.lift (fun _ _ _ _ k => lv_goto (pc := 45) (tgt := 49) X.2.2.1 X.2.2.2.1 dX11_number_45 rfl k) ?_
    exact a_ireturn X Z.2.2.1 Z.2.2.2.1 dX11_number_49 hf
theorem np_X13_init : npar yX13_init.desc 3 := by unfold npar; decide +kernel
theorem hy_X13_init : yX13_init.cls ≠ "java/lang/invoke/MethodHandle" ∧ yX13_init.cls ≠ "java/lang/invoke/VarHandle" := by decide +kernel
theorem w_X13_init (GA : GA l s0 a0 K lam) (v0 : Option Nat) (v1 : Option Nat) (v2 : Int32) (v3 : Int32) : AMet l s0 K lam yX13_init (Cond.code yX13_init cX13_init (4 : Nat) (Option.none : Option ClassFile.FieldType)) 1 20 [vR v0, vR v1, vI v2, vI v3] oV (f_X13_init K v0 v1 v2 v3) := by
  refine AMet.of GA.1 (plainFor_of_name (by decide +kernel)) (Nat.le_of_ble_eq_true rfl) ?_
  intro b r hf p e s m args below meth c X hr hlk hnm hnd ht ls hl
  have Z : WZ l s0 a0 K p s m c cX13_init yX13_init.cls 4 b { frames := 1, cells := K 0 - aX b, slots := K 1 - aW b, locals := 20 } 1 20 meth [] none yX13_init := ⟨⟨X, GA.2.1, GA.2.2.1, rfl, rfl, Nat.le_refl _, Nat.le_refl _⟩, tab_nil ht, hr, hlk, hnm, hnd⟩
  unfold f_X13_init at hf
  clear hr hlk hnm hnd ht
  refine a_aload_n (pc := 0) X dX13_init_0 rfl hl 0 rfl ?_
  obtain ⟨a1, rfl, hf⟩ := nz_some hf
  refine a_objInit (pc := 1) (rs := []) Z.1 q2871 q144 q145 (by decide) (by decide) hl.1 (Nat.le_of_ble_eq_true rfl) dX13_init_1 ?_
  refine AW.eq (g2 := F0 m 4 ls []) rfl ?_
  refine a_aload_n (pc := 4) X dX13_init_4 rfl hl 0 rfl ?_
  refine a_aload_n (pc := 5) X dX13_init_5 rfl hl 1 rfl ?_
  refine a_putF (pc := 6) (φ := 1000) X Z.1.2.1 Z.1.2.2.1 (gw X.1 X.2.1 q2872) (fun _ q => q) (by decide) rfl Z.2.2.2.2.1 rfl (fits_rf _ (Or.inl ⟨_, rfl⟩)) dX13_init_6 hf (fun h hf => ?_)
  refine a_aload_n (pc := 9) X dX13_init_9 rfl hl 0 rfl ?_
  refine a_iload_n (pc := 10) X dX13_init_10 rfl hl 2 rfl ?_
  refine a_putF (pc := 11) (φ := 1001) X Z.1.2.1 Z.1.2.2.1 (gw X.1 X.2.1 q2873) (fun _ q => q) (by decide) rfl Z.2.2.2.2.1 rfl rfl dX13_init_11 hf (fun h hf => ?_)
  refine a_aload_n (pc := 14) X dX13_init_14 rfl hl 0 rfl ?_
  refine a_iload_n (pc := 15) X dX13_init_15 rfl hl 3 rfl ?_
  refine a_putF (pc := 16) (φ := 1002) X Z.1.2.1 Z.1.2.2.1 (gw X.1 X.2.1 q2874) (fun _ q => q) (by decide) rfl Z.2.2.2.2.1 rfl rfl dX13_init_16 hf (fun h hf => ?_)
  exact a_return X Z.2.2.1 Z.2.2.2.1 dX13_init_19 hf
end WK
