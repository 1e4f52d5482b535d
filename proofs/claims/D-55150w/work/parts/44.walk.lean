section WK
variable {l : Launch} {s0 : State} {a0 : Array Value} {K : Nat → Nat} {lam : Nat → ClassId}
variable {p : Program} {e : Env} {R : Room} {s : State} {m : MethodId} {args : Array Value} {below : List Frame} {meth : Method} {c : Code} {b : AH}
theorem np_X1_partyAt : npar yX1_partyAt.desc 1 := by unfold npar; decide +kernel
theorem hy_X1_partyAt : yX1_partyAt.cls ≠ "java/lang/invoke/MethodHandle" ∧ yX1_partyAt.cls ≠ "java/lang/invoke/VarHandle" := by decide +kernel
theorem w_X1_partyAt (GA : GA l s0 a0 K lam) (v0 : Option Nat) (v1 : Int32) : AMet l s0 K lam yX1_partyAt (Cond.code yX1_partyAt cX1_partyAt (2 : Nat) (Option.some (ClassFile.FieldType.object "JumpHall$Party"))) 9 420 [vR v0, vI v1] oR (f_X1_partyAt K v0 v1) := by
  refine AMet.of GA.1 (plainFor_of_name (by decide +kernel)) (Nat.le_of_ble_eq_true rfl) ?_
  intro b r hf p e s m args below meth c X hr hlk hnm hnd ht ls hl
  have Z : WZ l s0 a0 K p s m c cX1_partyAt yX1_partyAt.cls 2 b { frames := 9, cells := K 0 - aX b, slots := K 1 - aW b, locals := 420 } 9 420 meth [] (some (.object "JumpHall$Party")) yX1_partyAt := ⟨⟨X, GA.2.1, GA.2.2.1, rfl, rfl, Nat.le_refl _, Nat.le_refl _⟩, tab_nil ht, hr, hlk, hnm, hnd⟩
  unfold f_X1_partyAt at hf
  clear hr hlk hnm hnd ht
  refine a_iload_n (pc := 0) X dX1_partyAt_0 rfl hl 1 rfl ?_
  refine AW.lift (fun _ _ _ _ k => lv_iconst (pc := 1) (v := (0 : Int32)) X.2.2.1 X.2.2.2.1 dX1_partyAt_1 rfl k) ?_
  refine a_aload_n (pc := 2) X dX1_partyAt_2 rfl hl 0 rfl ?_
  refine a_get (pc := 3) (φ := 200) pR_t X Z.1.2.1 (gw X.1 X.2.1 q309) (fun _ q => q) (by decide) dX1_partyAt_3 hf (fun x3 hf => ?_)
  refine a_getN (pc := 6) (φ := 302) pR_t X Z.1.2.1 (gnF X.1 X.2.1 q233) (fun _ q => q) (by decide) dX1_partyAt_6 hf (fun x6 hf => ?_)
  obtain ⟨a9, rfl, ⟨hk, hf⟩ | ⟨-, hf⟩⟩ := dv_some hf
  rotate_left
  · exact fl_none hf
  refine a_callb (pc := 9) (rs := [vI (0 : Int32), vI v1]) (avs := [vR (some a9)]) Z.1 (w_J2_size GA (some a9)) (Or.inl rfl) q1012 q78 (by decide) (by decide) dX1_partyAt_9 hl.1 (Nat.le_of_ble_eq_true rfl) hf (ct_V hk ⟨by decide, by decide⟩ X (Or.inl rfl) q1012 q1705 q1011 q3486 hy_J2_size np_J2_size rfl dX1_partyAt_9) (fun q h he hX => a_out (unc_of Z.2.1 rfl) Z.2.2.2.1 he hX) (fun x9 h hf => ?kk9)
  refine AW.eq (g2 := F0 m 12 ls [.int x9, .int (0 : Int32), .int v1]) rfl ?_
  refine AW.lift (fun _ _ _ _ k => lv_iconst (pc := 12) (v := (1 : Int32)) X.2.2.1 X.2.2.2.1 dX1_partyAt_12 rfl k) ?_
  refine AW.lift (fun _ _ _ _ k => lv_isub (pc := 13) X.2.2.1 X.2.2.2.1 dX1_partyAt_13 k) ?_
  refine a_callb (pc := 14) (rs := []) (avs := [vI v1, vI (0 : Int32), vI (x9 - (1 : Int32))]) Z.1 (w_X1_isIn GA v1 (0 : Int32) (x9 - (1 : Int32))) (Or.inl rfl) q1812 q74 (by decide) (by decide) dX1_partyAt_14 hl.1 (Nat.le_of_ble_eq_true rfl) hf (ct_S X (Or.inl rfl) q1812 q74 q1813 q1811 hy_X1_isIn np_X1_isIn rfl dX1_partyAt_14) (fun q h he hX => a_out (unc_of Z.2.1 rfl) Z.2.2.2.1 he hX) (fun x14 h hf => ?kk14)
  refine AW.eq (g2 := F0 m 17 ls [.int x14]) rfl ?_
  refine a_callb (pc := 17) (rs := []) (avs := [vI x14]) Z.1 (w_X1_checkIndex GA x14) (Or.inl rfl) q1816 q74 (by decide) (by decide) dX1_partyAt_17 hl.1 (Nat.le_of_ble_eq_true rfl) hf (ct_S X (Or.inl rfl) q1816 q74 q1814 q1815 hy_X1_checkIndex np_X1_checkIndex rfl dX1_partyAt_17) (fun q h he hX => a_out (unc_of Z.2.1 rfl) Z.2.2.2.1 he hX) (fun _ h hf => ?kk17)
  refine AW.eq (g2 := F0 m 20 ls []) rfl ?_
  refine a_aload_n (pc := 20) X dX1_partyAt_20 rfl hl 0 rfl ?_
  refine a_get (pc := 21) (φ := 200) pR_t X Z.1.2.1 (gw X.1 X.2.1 q309) (fun _ q => q) (by decide) dX1_partyAt_21 hf (fun x21 hf => ?_)
  refine a_getN (pc := 24) (φ := 302) pR_t X Z.1.2.1 (gnF X.1 X.2.1 q233) (fun _ q => q) (by decide) dX1_partyAt_24 hf (fun x24 hf => ?_)
  refine a_iload_n (pc := 27) X dX1_partyAt_27 rfl hl 1 rfl ?_
  obtain ⟨a28, rfl, ⟨hk, hf⟩ | ⟨-, hf⟩⟩ := dv_some hf
  rotate_left
  · exact fl_none hf
  refine a_callb (pc := 28) (rs := []) (avs := [vR (some a28), vI v1]) Z.1 (w_J2_get GA (some a28) v1) (Or.inl rfl) q505 q78 (by decide) (by decide) dX1_partyAt_28 hl.1 (Nat.le_of_ble_eq_true rfl) hf (ct_V hk ⟨by decide, by decide⟩ X (Or.inl rfl) q505 q1862 q503 q3487 hy_J2_get np_J2_get rfl dX1_partyAt_28) (fun q h he hX => a_out (unc_of Z.2.1 rfl) Z.2.2.2.1 he hX) (fun x28 h hf => ?kk28)
  refine AW.eq (g2 := F0 m 31 ls [va_rf x28]) rfl ?_
  refine a_checkcast (pc := 31) X (gw X.1 X.2.1 q2419) (cs_JumpHall_Party GA) dX1_partyAt_31 hf (fun hf => ?_)
  exact a_areturn X Z.2.2.1 (Or.inl ⟨_, rfl⟩) Z.2.2.2.1 dX1_partyAt_34 hf
theorem np_X1_cancel : npar yX1_cancel.desc 1 := by unfold npar; decide +kernel
theorem hy_X1_cancel : yX1_cancel.cls ≠ "java/lang/invoke/MethodHandle" ∧ yX1_cancel.cls ≠ "java/lang/invoke/VarHandle" := by decide +kernel
theorem w_X1_cancel (GA : GA l s0 a0 K lam) (v0 : Option Nat) (v1 : Int32) : AMet l s0 K lam yX1_cancel (Cond.code yX1_cancel cX1_cancel (3 : Nat) (Option.some ClassFile.FieldType.int)) 21 3348 [vR v0, vI v1] oI (f_X1_cancel K v0 v1) := by
  refine AMet.of GA.1 (plainFor_of_name (by decide +kernel)) (Nat.le_of_ble_eq_true rfl) ?_
  intro b r hf p e s m args below meth c X hr hlk hnm hnd ht ls hl
  have Z : WZ l s0 a0 K p s m c cX1_cancel yX1_cancel.cls 3 b { frames := 21, cells := K 0 - aX b, slots := K 1 - aW b, locals := 3348 } 21 3348 meth [] (some (.int)) yX1_cancel := ⟨⟨X, GA.2.1, GA.2.2.1, rfl, rfl, Nat.le_refl _, Nat.le_refl _⟩, tab_nil ht, hr, hlk, hnm, hnd⟩
  unfold f_X1_cancel at hf
  clear hr hlk hnm hnd ht
  refine a_aload_n (pc := 0) X dX1_cancel_0 rfl hl 0 rfl ?_
  refine a_iload_n (pc := 1) X dX1_cancel_1 rfl hl 1 rfl ?_
  obtain ⟨a2, rfl, ⟨hk, hf⟩ | ⟨-, hf⟩⟩ := dv_some hf
  rotate_left
  · exact fl_none hf
  refine a_callb (pc := 2) (rs := []) (avs := [vR (some a2), vI v1]) Z.1 (w_X1_partyAt GA (some a2) v1) (Or.inl rfl) q2418 q74 (by decide) (by decide) dX1_cancel_2 hl.1 (Nat.le_of_ble_eq_true rfl) hf (ct_V hk ⟨by decide, by decide⟩ X (Or.inl rfl) q2418 q2415 q2417 pv_10 hy_X1_partyAt np_X1_partyAt rfl dX1_cancel_2) (fun q h he hX => a_out (unc_of Z.2.1 rfl) Z.2.2.2.1 he hX) (fun x2 h hf => ?kk2)
  refine AW.eq (g2 := F0 m 5 ls [va_rf x2]) rfl ?_
  refine a_astore_n (pc := 5) X dX1_cancel_5 rfl hl (by decide) (lv' := [(2, vR x2), (0, vR (some a2)), (1, vI v1)]) rfl (fun ls hl => ?_)
  refine a_aload_n (pc := 6) X dX1_cancel_6 rfl hl 1 rfl ?_
  refine a_iload_n (pc := 7) X dX1_cancel_7 rfl hl 2 rfl ?_
  refine a_ndy (pc := 8) (rs := [vR (some a2)]) (avs := [vI v1]) Z.1 Z.2.2.2.2.2 (siG_219 GA) hfb_19 (lw_all_tbl q3550) ⟨by decide, by decide⟩ rfl rfl rfl (by decide) hl.1 (Nat.le_of_ble_eq_true rfl) (Nat.le_of_ble_eq_true rfl) rfl dX1_cancel_8 hf (fun x8 h hf => ?_)
  refine AW.eq (g2 := F0 m 13 ls [va_rf (some x8), va_rf (some a2)]) rfl ?_
  rcases dv_someS hf with ⟨hk, hf⟩ | ⟨-, hf⟩
  rotate_left
  · exact fl_none hf
  refine a_callb (pc := 13) (rs := []) (avs := [vR (some a2), vR (some x8)]) Z.1 (w_X1_does GA (some a2) (some x8)) (Or.inr (Or.inl ⟨_, rfl⟩)) q1754 q74 (by decide) (by decide) dX1_cancel_13 hl.1 (Nat.le_of_ble_eq_true rfl) hf (ct_V hk ⟨by decide, by decide⟩ X (Or.inr (Or.inl ⟨_, rfl⟩)) q1754 q1751 q1753 pv_4 hy_X1_does np_X1_does rfl dX1_cancel_13) (fun q h he hX => a_out (unc_of Z.2.1 rfl) Z.2.2.2.1 he hX) (fun x13 h hf => ?kk13)
  refine AW.eq (g2 := F0 m 16 ls [.int x13]) rfl ?_
  exact a_ireturn X Z.2.2.1 Z.2.2.2.1 dX1_cancel_16 hf
theorem np_X0_cancel : npar yX0_cancel.desc 3 := by unfold npar; decide +kernel
theorem hy_X0_cancel : yX0_cancel.cls ≠ "java/lang/invoke/MethodHandle" ∧ yX0_cancel.cls ≠ "java/lang/invoke/VarHandle" := by decide +kernel
theorem w_X0_cancel (GA : GA l s0 a0 K lam) (v0 : Option Nat) (v1 : Int32) (v2 : Option Nat) : AMet l s0 K lam yX0_cancel (Cond.codeWith yX0_cancel cX0_cancel (4 : Nat) (Option.some ClassFile.FieldType.int) [((0 : Nat), (9 : Nat), (12 : Nat), (19 : Nat)), ((0 : Nat), (9 : Nat), (15 : Nat), (13 : Nat))]) 22 3370 [vR v0, vI v1, vR v2] oI (f_X0_cancel K v0 v1 v2) := by
  refine AMet.ofW GA.1 (plainFor_of_name (by decide +kernel)) (Nat.le_of_ble_eq_true rfl) ?_
  intro b r hf p e s m args below meth c X hr hlk hnm hnd ht ls hl
  have Z : WZ l s0 a0 K p s m c cX0_cancel yX0_cancel.cls 4 b { frames := 22, cells := K 0 - aX b, slots := K 1 - aW b, locals := 3370 } 22 3370 meth [(0, 9, 12, 19), (0, 9, 15, 13)] (some (.int)) yX0_cancel := ⟨⟨X, GA.2.1, GA.2.2.1, rfl, rfl, Nat.le_refl _, Nat.le_refl _⟩, ht, hr, hlk, hnm, hnd⟩
  unfold f_X0_cancel at hf
  clear hr hlk hnm hnd ht
  refine a_aload_n (pc := 0) X dX0_cancel_0 rfl hl 2 rfl ?_
  refine AW.lift (fun _ _ _ _ k => lv_iconst (pc := 1) (v := (0 : Int32)) X.2.2.1 X.2.2.2.1 dX0_cancel_1 rfl k) ?_
  refine a_aload_n (pc := 2) X dX0_cancel_2 rfl hl 0 rfl ?_
  refine a_iload_n (pc := 3) X dX0_cancel_3 rfl hl 1 rfl ?_
  obtain ⟨a4, rfl, ⟨hk, hf⟩ | ⟨-, hf⟩⟩ := dv_tsome hf
  rotate_left
  · exact fl_tnone hf
  refine a_callt (pc := 4) (rs := [vI (0 : Int32), vR v2]) (avs := [vR (some a4), vI v1]) Z.1 (w_X1_cancel GA (some a4) v1) (Or.inl rfl) q2414 q74 (by decide) (by decide) dX0_cancel_4 hl.1 (Nat.le_of_ble_eq_true rfl) hf (ct_V hk ⟨by decide, by decide⟩ X (Or.inl rfl) q2414 q2411 q2412 q2413 hy_X1_cancel np_X1_cancel rfl dX0_cancel_4) (fun q h hf hX => ?hx4) (fun x4 h hf => ?kk4)
  case hx4 =>
    rcases ctc_some hf with ⟨hy, hf⟩ | ⟨hn0, hf⟩
    · refine a_catchH (st := 0) (en := 9) (hp := 12) (ct := 19) (pre := []) (suf := [(0, 9, 15, 13)]) X hX Z.2.1 rfl (fun z hz => nomatch hz) (by decide) (Or.inr ⟨by decide, _, gw X.1 X.2.1 q1786, (cs_X19 GA) _ hy⟩) (AW.eq (g2 := F0 m 12 ls [va_rf (some q)]) rfl ?_)
      refine a_astore_n (pc := 12) X dX0_cancel_12 rfl hl (by decide) (lv' := [(3, vR (some q)), (0, vR (some a4)), (1, vI v1), (2, vR v2)]) rfl (fun ls hl => ?_)
      refine AW.lift (fun _ _ _ _ k => lv_iconst (pc := 13) (v := (1 : Int32)) X.2.2.1 X.2.2.2.1 dX0_cancel_13 rfl k) ?_
      exact a_ireturn X Z.2.2.1 Z.2.2.2.1 dX0_cancel_14 hf
    · skip
      rcases ctc_some hf with ⟨hy, hf⟩ | ⟨hn1, hf⟩
      · refine a_catchH (st := 0) (en := 9) (hp := 15) (ct := 13) (pre := [(0, 9, 12, 19)]) (suf := []) X hX Z.2.1 rfl (by intro z hz; simp only [List.mem_cons, List.not_mem_nil, or_false] at hz; rcases hz with rfl <;> first | exact Or.inl (by decide) | exact Or.inr ⟨by decide, _, gw X.1 X.2.1 q1786, (nc_12_13_14_16_17_18_20_21_java_lang_IndexOutOfBoundsException GA _ (by simpa using hn0)).2.2⟩) (by decide) (Or.inr ⟨by decide, _, gw X.1 X.2.1 q1709, (cs_X21 GA) _ hy⟩) (AW.eq (g2 := F0 m 15 ls [va_rf (some q)]) rfl ?_)
        refine a_astore_n (pc := 15) X dX0_cancel_15 rfl hl (by decide) (lv' := [(3, vR (some q)), (0, vR (some a4)), (1, vI v1), (2, vR v2)]) rfl (fun ls hl => ?_)
        refine AW.lift (fun _ _ _ _ k => lv_iconst (pc := 16) (v := (2 : Int32)) X.2.2.1 X.2.2.2.1 dX0_cancel_16 rfl k) ?_
        exact a_ireturn X Z.2.2.1 Z.2.2.2.1 dX0_cancel_17 hf
      · skip
        exact a_outH X Z.2.1 (by intro z hz; simp only [List.mem_cons, List.not_mem_nil, or_false] at hz; rcases hz with rfl | rfl <;> first | exact Or.inl (by decide) | exact Or.inr ⟨by decide, _, gw X.1 X.2.1 q1786, (nc_12_13_14_16_17_18_20_21_java_lang_IndexOutOfBoundsException GA _ (by simpa using hn0)).2.2⟩ | exact Or.inr ⟨by decide, _, gw X.1 X.2.1 q1709, (nc_12_13_14_16_17_18_19_20_java_lang_UnsupportedOperationException GA _ (by simpa using hn1)).2.2⟩) Z.2.2.2.1 (th_eq hf) hX
  refine AW.eq (g2 := F0 m 7 ls [.int x4, .int (0 : Int32), va_rf v2]) rfl ?_
  refine AW.lift (fun _ _ _ _ k => lv_i2l (pc := 7) X.2.2.1 X.2.2.2.1 dX0_cancel_7 rfl k) ?_
  refine a_lastore (pc := 8) X dX0_cancel_8 hf (fun h hf => ?_)
  refine AW.lift (fun _ _ _ _ k => lv_goto (pc := 9) (tgt := 18) X.2.2.1 X.2.2.2.1 dX0_cancel_9 rfl k) ?_
  refine AW.lift (fun _ _ _ _ k => lv_iconst (pc := 18) (v := (0 : Int32)) X.2.2.1 X.2.2.2.1 dX0_cancel_18 rfl k) ?_
  exact a_ireturn X Z.2.2.1 Z.2.2.2.1 dX0_cancel_19 hf
theorem np_X4_isParty : npar yX4_isParty.desc 1 := by unfold npar; decide +kernel
theorem hy_X4_isParty : yX4_isParty.cls ≠ "java/lang/invoke/MethodHandle" ∧ yX4_isParty.cls ≠ "java/lang/invoke/VarHandle" := by decide +kernel
theorem w_X4_isParty (GA : GA l s0 a0 K lam) (v0 : Option Nat) (v1 : Int32) : AMet l s0 K lam yX4_isParty (Cond.code yX4_isParty cX4_isParty (2 : Nat) (Option.some ClassFile.FieldType.boolean)) 1 25 [vR v0, vI v1] oI (f_X4_isParty K v0 v1) := by
  refine AMet.of GA.1 (plainFor_of_name (by decide +kernel)) (Nat.le_of_ble_eq_true rfl) ?_
  intro b r hf p e s m args below meth c X hr hlk hnm hnd ht ls hl
  have Z : WZ l s0 a0 K p s m c cX4_isParty yX4_isParty.cls 2 b { frames := 1, cells := K 0 - aX b, slots := K 1 - aW b, locals := 25 } 1 25 meth [] (some (.boolean)) yX4_isParty := ⟨⟨X, GA.2.1, GA.2.2.1, rfl, rfl, Nat.le_refl _, Nat.le_refl _⟩, tab_nil ht, hr, hlk, hnm, hnd⟩
  unfold f_X4_isParty at hf
  clear hr hlk hnm hnd ht
  refine a_iload_n (pc := 0) X dX4_isParty_0 rfl hl 1 rfl ?_
  refine AW.lift (fun _ _ _ _ k => lv_i2l (pc := 1) X.2.2.1 X.2.2.2.1 dX4_isParty_1 rfl k) ?_
  refine AW.lift (fun _ _ _ _ k => lv_lconst (pc := 2) (v := (0 : Int64)) X.2.2.1 X.2.2.2.1 dX4_isParty_2 rfl k) ?_
  refine a_aload_n (pc := 3) X dX4_isParty_3 rfl hl 0 rfl ?_
  refine a_get (pc := 4) (φ := 100) pR_t X Z.1.2.1 (gw X.1 X.2.1 q3025) (fun _ q => q) (by decide) dX4_isParty_4 hf (fun x4 hf => ?_)
  refine AW.lift (fun _ _ _ _ k => lv_iconst (pc := 7) (v := (4 : Int32)) X.2.2.1 X.2.2.2.1 dX4_isParty_7 rfl k) ?_
  refine a_iaload (pc := 8) X dX4_isParty_8 hf (fun x8 hf => ?_)
  refine AW.lift (fun _ _ _ _ k => lv_iconst (pc := 9) (v := (1 : Int32)) X.2.2.1 X.2.2.2.1 dX4_isParty_9 rfl k) ?_
  refine AW.lift (fun _ _ _ _ k => lv_isub (pc := 10) X.2.2.1 X.2.2.2.1 dX4_isParty_10 k) ?_
  refine AW.lift (fun _ _ _ _ k => lv_i2l (pc := 11) X.2.2.1 X.2.2.2.1 dX4_isParty_11 rfl k) ?_
  refine a_callb (pc := 12) (rs := []) (avs := [vJ (v1.toInt64), vJ (0 : Int64), vJ ((x8 - (1 : Int32)).toInt64)]) Z.1 (w_X4_in GA (v1.toInt64) (0 : Int64) ((x8 - (1 : Int32)).toInt64)) (Or.inl rfl) q3142 q86 (by decide) (by decide) dX4_isParty_12 hl.1 (Nat.le_of_ble_eq_true rfl) hf (ct_S X (Or.inl rfl) q3142 q86 q3140 q3141 hy_X4_in np_X4_in rfl dX4_isParty_12) (fun q h he hX => a_out (unc_of Z.2.1 rfl) Z.2.2.2.1 he hX) (fun x12 h hf => ?kk12)
  refine AW.eq (g2 := F0 m 15 ls [.int x12]) rfl ?_
  obtain ⟨hg, hf⟩ := chk_some hf
  exact a_zreturn X Z.2.2.1 hg Z.2.2.2.1 dX4_isParty_15 hf
theorem np_X4_cancel : npar yX4_cancel.desc 1 := by unfold npar; decide +kernel
theorem hy_X4_cancel : yX4_cancel.cls ≠ "java/lang/invoke/MethodHandle" ∧ yX4_cancel.cls ≠ "java/lang/invoke/VarHandle" := by decide +kernel
theorem w_X4_cancel (GA : GA l s0 a0 K lam) (v0 : Option Nat) (v1 : Int32) : AMet l s0 K lam yX4_cancel (Cond.code yX4_cancel cX4_cancel (3 : Nat) (Option.some ClassFile.FieldType.int)) 2 46 [vR v0, vI v1] oI (f_X4_cancel K v0 v1) := by
  refine AMet.of GA.1 (plainFor_of_name (by decide +kernel)) (Nat.le_of_ble_eq_true rfl) ?_
  intro b r hf p e s m args below meth c X hr hlk hnm hnd ht ls hl
  have Z : WZ l s0 a0 K p s m c cX4_cancel yX4_cancel.cls 3 b { frames := 2, cells := K 0 - aX b, slots := K 1 - aW b, locals := 46 } 2 46 meth [] (some (.int)) yX4_cancel := ⟨⟨X, GA.2.1, GA.2.2.1, rfl, rfl, Nat.le_refl _, Nat.le_refl _⟩, tab_nil ht, hr, hlk, hnm, hnd⟩
  unfold f_X4_cancel at hf
  clear hr hlk hnm hnd ht
  refine a_aload_n (pc := 0) X dX4_cancel_0 rfl hl 0 rfl ?_
  obtain ⟨a1, rfl, ⟨hk, hf⟩ | ⟨-, hf⟩⟩ := dv_some hf
  rotate_left
  · exact fl_none hf
  refine a_callb (pc := 1) (rs := []) (avs := [vR (some a1)]) Z.1 (w_X4_layAside GA (some a1)) (Or.inl rfl) q3112 q86 (by decide) (by decide) dX4_cancel_1 hl.1 (Nat.le_of_ble_eq_true rfl) hf (ct_V hk ⟨by decide, by decide⟩ X (Or.inl rfl) q3112 q3109 q3111 pv_28 hy_X4_layAside np_X4_layAside rfl dX4_cancel_1) (fun q h he hX => a_out (unc_of Z.2.1 rfl) Z.2.2.2.1 he hX) (fun _ h hf => ?kk1)
  refine AW.eq (g2 := F0 m 4 ls []) rfl ?_
  refine a_aload_n (pc := 4) X dX4_cancel_4 rfl hl 0 rfl ?_
  refine a_iload_n (pc := 5) X dX4_cancel_5 rfl hl 1 rfl ?_
  rcases dv_someS hf with ⟨hk, hf⟩ | ⟨-, hf⟩
  rotate_left
  · exact fl_none hf
  refine a_callb (pc := 6) (rs := []) (avs := [vR (some a1), vI v1]) Z.1 (w_X4_isParty GA (some a1) v1) (Or.inl rfl) q3323 q86 (by decide) (by decide) dX4_cancel_6 hl.1 (Nat.le_of_ble_eq_true rfl) hf (ct_V hk ⟨by decide, by decide⟩ X (Or.inl rfl) q3323 q3320 q3322 pv_54 hy_X4_isParty np_X4_isParty rfl dX4_cancel_6) (fun q h he hX => a_out (unc_of Z.2.1 rfl) Z.2.2.2.1 he hX) (fun x6 h hf => ?kk6)
  refine AW.eq (g2 := F0 m 9 ls [.int x6]) rfl ?_
  refine AW.lift2 (fun _ _ _ _ k1 k2 => lv_if_ne (pc := 9) (tgt := 18) X.2.2.1 X.2.2.2.1 dX4_cancel_9 rfl k2 k1) (fun c => ?_) (fun c => ?_)
  · have hf := ite_t c hf
    refine a_aload_n (pc := 12) X dX4_cancel_12 rfl hl 0 rfl ?_
    refine AW.lift (fun _ _ _ _ k => lv_iconst (pc := 13) (v := (1 : Int32)) X.2.2.1 X.2.2.2.1 dX4_cancel_13 rfl k) ?_
    rcases dv_someS hf with ⟨hk, hf⟩ | ⟨-, hf⟩
    rotate_left
    · exact fl_none hf
    refine a_callb (pc := 14) (rs := []) (avs := [vR (some a1), vI (1 : Int32)]) Z.1 (w_X4_throwing GA (some a1) (1 : Int32)) (Or.inl rfl) q3120 q86 (by decide) (by decide) dX4_cancel_14 hl.1 (Nat.le_of_ble_eq_true rfl) hf (ct_V hk ⟨by decide, by decide⟩ X (Or.inl rfl) q3120 q3117 q3119 pv_30 hy_X4_throwing np_X4_throwing rfl dX4_cancel_14) (fun q h he hX => a_out (unc_of Z.2.1 rfl) Z.2.2.2.1 he hX) (fun x14 h hf => ?kk14)
    refine AW.eq (g2 := F0 m 17 ls [.int x14]) rfl ?_
    exact a_ireturn X Z.2.2.1 Z.2.2.2.1 dX4_cancel_17 hf
  · have hf := ite_f c hf
    refine a_iload_n (pc := 18) X dX4_cancel_18 rfl hl 1 rfl ?_
    refine a_callb (pc := 19) (rs := []) (avs := [vI v1]) Z.1 (w_X4_party GA v1) (Or.inl rfl) q3315 q86 (by decide) (by decide) dX4_cancel_19 hl.1 (Nat.le_of_ble_eq_true rfl) hf (ct_S X (Or.inl rfl) q3315 q86 q3313 q3314 hy_X4_party np_X4_party rfl dX4_cancel_19) (fun q h he hX => a_out (unc_of Z.2.1 rfl) Z.2.2.2.1 he hX) (fun x19 h hf => ?kk19)
    refine AW.eq (g2 := F0 m 22 ls [.int x19]) rfl ?_
    refine a_istore_n (pc := 22) X dX4_cancel_22 rfl hl (by decide) (lv' := [(2, vI x19), (0, vR (some a1)), (1, vI v1)]) rfl (fun ls hl => ?_)
    refine a_aload_n (pc := 23) X dX4_cancel_23 rfl hl 1 rfl ?_
    refine a_get (pc := 24) (φ := 100) pR_t X Z.1.2.1 (gw X.1 X.2.1 q3025) (fun _ q => q) (by decide) dX4_cancel_24 hf (fun x24 hf => ?_)
    refine a_iload_n (pc := 27) X dX4_cancel_27 rfl hl 0 rfl ?_
    refine AW.lift (fun _ _ _ _ k => lv_iconst (pc := 28) (v := (2 : Int32)) X.2.2.1 X.2.2.2.1 dX4_cancel_28 rfl k) ?_
    refine AW.lift (fun _ _ _ _ k => lv_iadd (pc := 29) X.2.2.1 X.2.2.2.1 dX4_cancel_29 k) ?_
    refine a_iaload (pc := 30) X dX4_cancel_30 hf (fun x30 hf => ?_)
    refine AW.lift2 (fun _ _ _ _ k1 k2 => lv_if_eq (pc := 31) (tgt := 50) X.2.2.1 X.2.2.2.1 dX4_cancel_31 rfl k1 k2) (fun c => ?_) (fun c => ?_)
    · have hf := ite_t c hf
      refine a_aload_n (pc := 50) X dX4_cancel_50 rfl hl 1 rfl ?_
      refine a_get (pc := 51) (φ := 100) pR_t X Z.1.2.1 (gw X.1 X.2.1 q3025) (fun _ q => q) (by decide) dX4_cancel_51 hf (fun x51 hf => ?_)
      refine a_iload_n (pc := 54) X dX4_cancel_54 rfl hl 0 rfl ?_
      refine AW.lift (fun _ _ _ _ k => lv_iconst (pc := 55) (v := (2 : Int32)) X.2.2.1 X.2.2.2.1 dX4_cancel_55 rfl k) ?_
      refine AW.lift (fun _ _ _ _ k => lv_iadd (pc := 56) X.2.2.1 X.2.2.2.1 dX4_cancel_56 k) ?_
      refine AW.lift (fun _ _ _ _ k => lv_iconst (pc := 57) (v := (2 : Int32)) X.2.2.1 X.2.2.2.1 dX4_cancel_57 rfl k) ?_
      refine a_iastore (pc := 58) X dX4_cancel_58 hf (fun h hf => ?_)
      refine a_aload_n (pc := 59) X dX4_cancel_59 rfl hl 1 rfl ?_
      refine a_aload_n (pc := 60) X dX4_cancel_60 rfl hl 1 rfl ?_
      refine AW.lift (fun _ _ _ _ k => lv_iconst (pc := 61) (v := (0 : Int32)) X.2.2.1 X.2.2.2.1 dX4_cancel_61 rfl k) ?_
      rcases dv_someS hf with ⟨hk, hf⟩ | ⟨-, hf⟩
      rotate_left
      · exact fl_none hf
      refine a_callb (pc := 62) (rs := [vR (some a1)]) (avs := [vR (some a1), vI (0 : Int32)]) Z.1 (w_X4_partiesAt GA (some a1) (0 : Int32)) (Or.inl rfl) q3312 q86 (by decide) (by decide) dX4_cancel_62 hl.1 (Nat.le_of_ble_eq_true rfl) hf (ct_V hk ⟨by decide, by decide⟩ X (Or.inl rfl) q3312 q3309 q3311 pv_53 hy_X4_partiesAt np_X4_partiesAt rfl dX4_cancel_62) (fun q h he hX => a_out (unc_of Z.2.1 rfl) Z.2.2.2.1 he hX) (fun x62 h hf => ?kk62)
      refine AW.eq (g2 := F0 m 65 ls [.int x62, va_rf (some a1)]) rfl ?_
      rcases dv_someS hf with ⟨hk, hf⟩ | ⟨-, hf⟩
      rotate_left
      · exact fl_none hf
      refine a_callb (pc := 65) (rs := []) (avs := [vR (some a1), vI x62]) Z.1 (w_X4_changed GA (some a1) x62) (Or.inl rfl) q3127 q86 (by decide) (by decide) dX4_cancel_65 hl.1 (Nat.le_of_ble_eq_true rfl) hf (ct_V hk ⟨by decide, by decide⟩ X (Or.inl rfl) q3127 q3124 q3126 pv_31 hy_X4_changed np_X4_changed rfl dX4_cancel_65) (fun q h he hX => a_out (unc_of Z.2.1 rfl) Z.2.2.2.1 he hX) (fun x65 h hf => ?kk65)
      refine AW.eq (g2 := F0 m 68 ls [.int x65]) rfl ?_
      exact a_ireturn X Z.2.2.1 Z.2.2.2.1 dX4_cancel_68 hf
    · have hf := ite_f c hf
      refine a_aload_n (pc := 34) X dX4_cancel_34 rfl hl 1 rfl ?_
      refine AW.lift (fun _ _ _ _ k => lv_iconst (pc := 35) (v := (2 : Int32)) X.2.2.1 X.2.2.2.1 dX4_cancel_35 rfl k) ?_
      refine AW.lift (fun _ _ _ _ k => lv_bipush (pc := 36) (v := (11 : Int32)) X.2.2.1 X.2.2.2.1 dX4_cancel_36 rfl k) ?_
      refine a_aload_n (pc := 38) X dX4_cancel_38 rfl hl 1 rfl ?_
      refine a_get (pc := 39) (φ := 100) pR_t X Z.1.2.1 (gw X.1 X.2.1 q3025) (fun _ q => q) (by decide) dX4_cancel_39 hf (fun x39 hf => ?_)
      refine a_iload_n (pc := 42) X dX4_cancel_42 rfl hl 0 rfl ?_
      refine AW.lift (fun _ _ _ _ k => lv_iconst (pc := 43) (v := (2 : Int32)) X.2.2.1 X.2.2.2.1 dX4_cancel_43 rfl k) ?_
      refine AW.lift (fun _ _ _ _ k => lv_iadd (pc := 44) X.2.2.1 X.2.2.2.1 dX4_cancel_44 k) ?_
      refine a_iaload (pc := 45) X dX4_cancel_45 hf (fun x45 hf => ?_)
      rcases dv_someS hf with ⟨hk, hf⟩ | ⟨-, hf⟩
      rotate_left
      · exact fl_none hf
      refine a_callb (pc := 46) (rs := []) (avs := [vR (some a1), vI (2 : Int32), vI (11 : Int32), vI x45]) Z.1 (w_X4_refuse GA (some a1) (2 : Int32) (11 : Int32) x45) (Or.inl rfl) q3116 q86 (by decide) (by decide) dX4_cancel_46 hl.1 (Nat.le_of_ble_eq_true rfl) hf (ct_V hk ⟨by decide, by decide⟩ X (Or.inl rfl) q3116 q3113 q3115 pv_29 hy_X4_refuse np_X4_refuse rfl dX4_cancel_46) (fun q h he hX => a_out (unc_of Z.2.1 rfl) Z.2.2.2.1 he hX) (fun x46 h hf => ?kk46)
      refine AW.eq (g2 := F0 m 49 ls [.int x46]) rfl ?_
      exact a_ireturn X Z.2.2.1 Z.2.2.2.1 dX4_cancel_49 hf
theorem np_X1_partyOf : npar yX1_partyOf.desc 2 := by unfold npar; decide +kernel
theorem hy_X1_partyOf : yX1_partyOf.cls ≠ "java/lang/invoke/MethodHandle" ∧ yX1_partyOf.cls ≠ "java/lang/invoke/VarHandle" := by decide +kernel
theorem w_X1_partyOf (GA : GA l s0 a0 K lam) (v0 : Option Nat) (v1 : Int32) (v2 : Int32) : AMet l s0 K lam yX1_partyOf (Cond.code yX1_partyOf cX1_partyOf (4 : Nat) (Option.some ClassFile.FieldType.int)) 10 441 [vR v0, vI v1, vI v2] oI (f_X1_partyOf K v0 v1 v2) := by
  refine AMet.of GA.1 (plainFor_of_name (by decide +kernel)) (Nat.le_of_ble_eq_true rfl) ?_
  intro b r hf p e s m args below meth c X hr hlk hnm hnd ht ls hl
  have Z : WZ l s0 a0 K p s m c cX1_partyOf yX1_partyOf.cls 4 b { frames := 10, cells := K 0 - aX b, slots := K 1 - aW b, locals := 441 } 10 441 meth [] (some (.int)) yX1_partyOf := ⟨⟨X, GA.2.1, GA.2.2.1, rfl, rfl, Nat.le_refl _, Nat.le_refl _⟩, tab_nil ht, hr, hlk, hnm, hnd⟩
  unfold f_X1_partyOf at hf
  clear hr hlk hnm hnd ht
  refine a_aload_n (pc := 0) X dX1_partyOf_0 rfl hl 0 rfl ?_
  refine a_iload_n (pc := 1) X dX1_partyOf_1 rfl hl 1 rfl ?_
  obtain ⟨a2, rfl, ⟨hk, hf⟩ | ⟨-, hf⟩⟩ := dv_some hf
  rotate_left
  · exact fl_none hf
  refine a_callb (pc := 2) (rs := []) (avs := [vR (some a2), vI v1]) Z.1 (w_X1_partyAt GA (some a2) v1) (Or.inl rfl) q2418 q74 (by decide) (by decide) dX1_partyOf_2 hl.1 (Nat.le_of_ble_eq_true rfl) hf (ct_V hk ⟨by decide, by decide⟩ X (Or.inl rfl) q2418 q2415 q2417 pv_10 hy_X1_partyAt np_X1_partyAt rfl dX1_partyOf_2) (fun q h he hX => a_out (unc_of Z.2.1 rfl) Z.2.2.2.1 he hX) (fun x2 h hf => ?kk2)
  refine AW.eq (g2 := F0 m 5 ls [va_rf x2]) rfl ?_
  refine a_astore_n (pc := 5) X dX1_partyOf_5 rfl hl (by decide) (lv' := [(3, vR x2), (0, vR (some a2)), (1, vI v1), (2, vI v2)]) rfl (fun ls hl => ?_)
  refine a_iload_n (pc := 6) X dX1_partyOf_6 rfl hl 3 rfl ?_
  refine AW.lift (fun _ _ _ _ k => lv_iconst (pc := 7) (v := (0 : Int32)) X.2.2.1 X.2.2.2.1 dX1_partyOf_7 rfl k) ?_
  refine AW.lift (fun _ _ _ _ k => lv_iconst (pc := 8) (v := (3 : Int32)) X.2.2.1 X.2.2.2.1 dX1_partyOf_8 rfl k) ?_
  refine a_callb (pc := 9) (rs := []) (avs := [vI v2, vI (0 : Int32), vI (3 : Int32)]) Z.1 (w_X1_isIn GA v2 (0 : Int32) (3 : Int32)) (Or.inl rfl) q1812 q74 (by decide) (by decide) dX1_partyOf_9 hl.1 (Nat.le_of_ble_eq_true rfl) hf (ct_S X (Or.inl rfl) q1812 q74 q1813 q1811 hy_X1_isIn np_X1_isIn rfl dX1_partyOf_9) (fun q h he hX => a_out (unc_of Z.2.1 rfl) Z.2.2.2.1 he hX) (fun x9 h hf => ?kk9)
  refine AW.eq (g2 := F0 m 12 ls [.int x9]) rfl ?_
  refine a_callb (pc := 12) (rs := []) (avs := [vI x9]) Z.1 (w_X1_checkArgument GA x9) (Or.inl rfl) q1880 q74 (by decide) (by decide) dX1_partyOf_12 hl.1 (Nat.le_of_ble_eq_true rfl) hf (ct_S X (Or.inl rfl) q1880 q74 q1878 q1879 hy_X1_checkArgument np_X1_checkArgument rfl dX1_partyOf_12) (fun q h he hX => a_out (unc_of Z.2.1 rfl) Z.2.2.2.1 he hX) (fun _ h hf => ?kk12)
  refine AW.eq (g2 := F0 m 15 ls []) rfl ?_
  refine a_iload_n (pc := 15) X dX1_partyOf_15 rfl hl 3 rfl ?_
  refine AW.lift2 (fun _ _ _ _ k1 k2 => lv_if_ne (pc := 16) (tgt := 26) X.2.2.1 X.2.2.2.1 dX1_partyOf_16 rfl k2 k1) (fun c => ?_) (fun c => ?_)
  · have hf := ite_t c hf
    refine a_aload_n (pc := 19) X dX1_partyOf_19 rfl hl 0 rfl ?_
    refine a_getN (pc := 20) (φ := 600) pI_t X Z.1.2.1 (gnF X.1 X.2.1 q963) (fun _ q => q) (by decide) dX1_partyOf_20 hf (fun x20 hf => ?_)
    refine AW.lift (fun _ _ _ _ k => lv_goto (pc := 23) (tgt := 54) X.2.2.1 X.2.2.2.1 dX1_partyOf_23 rfl k) ?_
    exact a_ireturn X Z.2.2.1 Z.2.2.2.1 dX1_partyOf_54 hf
  · have hf := ite_f c hf
    refine a_iload_n (pc := 26) X dX1_partyOf_26 rfl hl 3 rfl ?_
    refine AW.lift (fun _ _ _ _ k => lv_iconst (pc := 27) (v := (1 : Int32)) X.2.2.1 X.2.2.2.1 dX1_partyOf_27 rfl k) ?_
    refine AW.lift2 (fun _ _ _ _ k1 k2 => lv_icmp_ne (pc := 28) (tgt := 38) X.2.2.1 X.2.2.2.1 dX1_partyOf_28 rfl k2 k1) (fun c => ?_) (fun c => ?_)
    · have hf := ite_t c hf
      refine a_aload_n (pc := 31) X dX1_partyOf_31 rfl hl 0 rfl ?_
      refine a_getN (pc := 32) (φ := 601) pI_t X Z.1.2.1 (gnF X.1 X.2.1 q966) (fun _ q => q) (by decide) dX1_partyOf_32 hf (fun x32 hf => ?_)
      refine AW.lift (fun _ _ _ _ k => lv_goto (pc := 35) (tgt := 54) X.2.2.1 X.2.2.2.1 dX1_partyOf_35 rfl k) ?_
      exact a_ireturn X Z.2.2.1 Z.2.2.2.1 dX1_partyOf_54 hf
    · have hf := ite_f c hf
      refine a_iload_n (pc := 38) X dX1_partyOf_38 rfl hl 3 rfl ?_
      refine AW.lift (fun _ _ _ _ k => lv_iconst (pc := 39) (v := (2 : Int32)) X.2.2.1 X.2.2.2.1 dX1_partyOf_39 rfl k) ?_
      refine AW.lift2 (fun _ _ _ _ k1 k2 => lv_icmp_ne (pc := 40) (tgt := 50) X.2.2.1 X.2.2.2.1 dX1_partyOf_40 rfl k2 k1) (fun c => ?_) (fun c => ?_)
      · have hf := ite_t c hf
        refine a_aload_n (pc := 43) X dX1_partyOf_43 rfl hl 0 rfl ?_
        refine a_getN (pc := 44) (φ := 604) pI_t X Z.1.2.1 (gnF X.1 X.2.1 q973) (fun _ q => q) (by decide) dX1_partyOf_44 hf (fun x44 hf => ?_)
        refine AW.lift (fun _ _ _ _ k => lv_goto (pc := 47) (tgt := 54) X.2.2.1 X.2.2.2.1 dX1_partyOf_47 rfl k) ?_
        exact a_ireturn X Z.2.2.1 Z.2.2.2.1 dX1_partyOf_54 hf
      · have hf := ite_f c hf
        refine a_aload_n (pc := 50) X dX1_partyOf_50 rfl hl 0 rfl ?_
        refine a_getN (pc := 51) (φ := 605) pI_t X Z.1.2.1 (gnF X.1 X.2.1 q976) (fun _ q => q) (by decide) dX1_partyOf_51 hf (fun x51 hf => ?_)
        exact a_ireturn X Z.2.2.1 Z.2.2.2.1 dX1_partyOf_54 hf
theorem np_X0_partyOf : npar yX0_partyOf.desc 4 := by unfold npar; decide +kernel
theorem hy_X0_partyOf : yX0_partyOf.cls ≠ "java/lang/invoke/MethodHandle" ∧ yX0_partyOf.cls ≠ "java/lang/invoke/VarHandle" := by decide +kernel
theorem w_X0_partyOf (GA : GA l s0 a0 K lam) (v0 : Option Nat) (v1 : Int32) (v2 : Int32) (v3 : Option Nat) : AMet l s0 K lam yX0_partyOf (Cond.codeWith yX0_partyOf cX0_partyOf (5 : Nat) (Option.some ClassFile.FieldType.int) [((0 : Nat), (10 : Nat), (13 : Nat), (19 : Nat)), ((0 : Nat), (10 : Nat), (17 : Nat), (28 : Nat))]) 11 464 [vR v0, vI v1, vI v2, vR v3] oI (f_X0_partyOf K v0 v1 v2 v3) := by
  refine AMet.ofW GA.1 (plainFor_of_name (by decide +kernel)) (Nat.le_of_ble_eq_true rfl) ?_
  intro b r hf p e s m args below meth c X hr hlk hnm hnd ht ls hl
  have Z : WZ l s0 a0 K p s m c cX0_partyOf yX0_partyOf.cls 5 b { frames := 11, cells := K 0 - aX b, slots := K 1 - aW b, locals := 464 } 11 464 meth [(0, 10, 13, 19), (0, 10, 17, 28)] (some (.int)) yX0_partyOf := ⟨⟨X, GA.2.1, GA.2.2.1, rfl, rfl, Nat.le_refl _, Nat.le_refl _⟩, ht, hr, hlk, hnm, hnd⟩
  unfold f_X0_partyOf at hf
  clear hr hlk hnm hnd ht
  refine a_aload_n (pc := 0) X dX0_partyOf_0 rfl hl 3 rfl ?_
  refine AW.lift (fun _ _ _ _ k => lv_iconst (pc := 1) (v := (0 : Int32)) X.2.2.1 X.2.2.2.1 dX0_partyOf_1 rfl k) ?_
  refine a_aload_n (pc := 2) X dX0_partyOf_2 rfl hl 0 rfl ?_
  refine a_iload_n (pc := 3) X dX0_partyOf_3 rfl hl 1 rfl ?_
  refine a_iload_n (pc := 4) X dX0_partyOf_4 rfl hl 2 rfl ?_
  obtain ⟨a5, rfl, ⟨hk, hf⟩ | ⟨-, hf⟩⟩ := dv_tsome hf
  rotate_left
  · exact fl_tnone hf
  refine a_callt (pc := 5) (rs := [vI (0 : Int32), vR v3]) (avs := [vR (some a5), vI v1, vI v2]) Z.1 (w_X1_partyOf GA (some a5) v1 v2) (Or.inl rfl) q2436 q74 (by decide) (by decide) dX0_partyOf_5 hl.1 (Nat.le_of_ble_eq_true rfl) hf (ct_V hk ⟨by decide, by decide⟩ X (Or.inl rfl) q2436 q2433 q2434 q2435 hy_X1_partyOf np_X1_partyOf rfl dX0_partyOf_5) (fun q h hf hX => ?hx5) (fun x5 h hf => ?kk5)
  case hx5 =>
    rcases ctc_some hf with ⟨hy, hf⟩ | ⟨hn0, hf⟩
    · refine a_catchH (st := 0) (en := 10) (hp := 13) (ct := 19) (pre := []) (suf := [(0, 10, 17, 28)]) X hX Z.2.1 rfl (fun z hz => nomatch hz) (by decide) (Or.inr ⟨by decide, _, gw X.1 X.2.1 q1786, (cs_X19 GA) _ hy⟩) (AW.eq (g2 := F0 m 13 ls [va_rf (some q)]) rfl ?_)
      refine a_astore (pc := 13) X dX0_partyOf_13 hl (by decide) (lv' := [(4, vR (some q)), (0, vR (some a5)), (1, vI v1), (2, vI v2), (3, vR v3)]) rfl (fun ls hl => ?_)
      refine AW.lift (fun _ _ _ _ k => lv_iconst (pc := 15) (v := (1 : Int32)) X.2.2.1 X.2.2.2.1 dX0_partyOf_15 rfl k) ?_
      exact a_ireturn X Z.2.2.1 Z.2.2.2.1 dX0_partyOf_16 hf
    · skip
      rcases ctc_some hf with ⟨hy, hf⟩ | ⟨hn1, hf⟩
      · refine a_catchH (st := 0) (en := 10) (hp := 17) (ct := 28) (pre := [(0, 10, 13, 19)]) (suf := []) X hX Z.2.1 rfl (by intro z hz; simp only [List.mem_cons, List.not_mem_nil, or_false] at hz; rcases hz with rfl <;> first | exact Or.inl (by decide) | exact Or.inr ⟨by decide, _, gw X.1 X.2.1 q1786, (nc_12_13_14_16_17_18_20_21_java_lang_IndexOutOfBoundsException GA _ (by simpa using hn0)).2.2⟩) (by decide) (Or.inr ⟨by decide, _, gw X.1 X.2.1 q1873, (cs_X17 GA) _ hy⟩) (AW.eq (g2 := F0 m 17 ls [va_rf (some q)]) rfl ?_)
        refine a_astore (pc := 17) X dX0_partyOf_17 hl (by decide) (lv' := [(4, vR (some q)), (0, vR (some a5)), (1, vI v1), (2, vI v2), (3, vR v3)]) rfl (fun ls hl => ?_)
        refine AW.lift (fun _ _ _ _ k => lv_iconst (pc := 19) (v := (2 : Int32)) X.2.2.1 X.2.2.2.1 dX0_partyOf_19 rfl k) ?_
        exact a_ireturn X Z.2.2.1 Z.2.2.2.1 dX0_partyOf_20 hf
      · skip
        exact a_outH X Z.2.1 (by intro z hz; simp only [List.mem_cons, List.not_mem_nil, or_false] at hz; rcases hz with rfl | rfl <;> first | exact Or.inl (by decide) | exact Or.inr ⟨by decide, _, gw X.1 X.2.1 q1786, (nc_12_13_14_16_17_18_20_21_java_lang_IndexOutOfBoundsException GA _ (by simpa using hn0)).2.2⟩ | exact Or.inr ⟨by decide, _, gw X.1 X.2.1 q1873, (nc_12_13_14_16_18_19_20_21_java_lang_IllegalArgumentException GA _ (by simpa using hn1)).2.2⟩) Z.2.2.2.1 (th_eq hf) hX
  refine AW.eq (g2 := F0 m 8 ls [.int x5, .int (0 : Int32), va_rf v3]) rfl ?_
  refine AW.lift (fun _ _ _ _ k => lv_i2l (pc := 8) X.2.2.1 X.2.2.2.1 dX0_partyOf_8 rfl k) ?_
  refine a_lastore (pc := 9) X dX0_partyOf_9 hf (fun h hf => ?_)
  refine AW.lift (fun _ _ _ _ k => lv_goto (pc := 10) (tgt := 21) X.2.2.1 X.2.2.2.1 dX0_partyOf_10 rfl k) ?_
  refine AW.lift (fun _ _ _ _ k => lv_iconst (pc := 21) (v := (0 : Int32)) X.2.2.1 X.2.2.2.1 dX0_partyOf_21 rfl k) ?_
  exact a_ireturn X Z.2.2.1 Z.2.2.2.1 dX0_partyOf_22 hf
theorem np_X4_partyOf : npar yX4_partyOf.desc 2 := by unfold npar; decide +kernel
theorem hy_X4_partyOf : yX4_partyOf.cls ≠ "java/lang/invoke/MethodHandle" ∧ yX4_partyOf.cls ≠ "java/lang/invoke/VarHandle" := by decide +kernel
theorem w_X4_partyOf (GA : GA l s0 a0 K lam) (v0 : Option Nat) (v1 : Int32) (v2 : Int32) : AMet l s0 K lam yX4_partyOf (Cond.code yX4_partyOf cX4_partyOf (3 : Nat) (Option.some ClassFile.FieldType.int)) 2 46 [vR v0, vI v1, vI v2] oI (f_X4_partyOf K v0 v1 v2) := by
  refine AMet.of GA.1 (plainFor_of_name (by decide +kernel)) (Nat.le_of_ble_eq_true rfl) ?_
  intro b r hf p e s m args below meth c X hr hlk hnm hnd ht ls hl
  have Z : WZ l s0 a0 K p s m c cX4_partyOf yX4_partyOf.cls 3 b { frames := 2, cells := K 0 - aX b, slots := K 1 - aW b, locals := 46 } 2 46 meth [] (some (.int)) yX4_partyOf := ⟨⟨X, GA.2.1, GA.2.2.1, rfl, rfl, Nat.le_refl _, Nat.le_refl _⟩, tab_nil ht, hr, hlk, hnm, hnd⟩
  unfold f_X4_partyOf at hf
  clear hr hlk hnm hnd ht
  refine a_aload_n (pc := 0) X dX4_partyOf_0 rfl hl 0 rfl ?_
  refine AW.lift (fun _ _ _ _ k => lv_iconst (pc := 1) (v := (0 : Int32)) X.2.2.1 X.2.2.2.1 dX4_partyOf_1 rfl k) ?_
  refine a_put (pc := 2) (φ := 107) X Z.1.2.1 Z.1.2.2.1 (gw X.1 X.2.1 q3032) (fun _ q => q) (by decide) rfl rfl dX4_partyOf_2 hf (fun h hf => ?_)
  refine a_aload_n (pc := 5) X dX4_partyOf_5 rfl hl 0 rfl ?_
  refine a_iload_n (pc := 6) X dX4_partyOf_6 rfl hl 1 rfl ?_
  obtain ⟨a7, rfl, ⟨hk, hf⟩ | ⟨-, hf⟩⟩ := dv_some hf
  rotate_left
  · exact fl_none hf
  refine a_callb (pc := 7) (rs := []) (avs := [vR (some a7), vI v1]) Z.1 (w_X4_isParty GA (some a7) v1) (Or.inl rfl) q3323 q86 (by decide) (by decide) dX4_partyOf_7 hl.1 (Nat.le_of_ble_eq_true rfl) hf (ct_V hk ⟨by decide, by decide⟩ X (Or.inl rfl) q3323 q3320 q3322 pv_54 hy_X4_isParty np_X4_isParty rfl dX4_partyOf_7) (fun q h he hX => a_out (unc_of Z.2.1 rfl) Z.2.2.2.1 he hX) (fun x7 h hf => ?kk7)
  refine AW.eq (g2 := F0 m 10 ls [.int x7]) rfl ?_
  refine AW.lift2 (fun _ _ _ _ k1 k2 => lv_if_ne (pc := 10) (tgt := 19) X.2.2.1 X.2.2.2.1 dX4_partyOf_10 rfl k2 k1) (fun c => ?_) (fun c => ?_)
  · have hf := ite_t c hf
    refine a_aload_n (pc := 13) X dX4_partyOf_13 rfl hl 0 rfl ?_
    refine AW.lift (fun _ _ _ _ k => lv_iconst (pc := 14) (v := (1 : Int32)) X.2.2.1 X.2.2.2.1 dX4_partyOf_14 rfl k) ?_
    rcases dv_someS hf with ⟨hk, hf⟩ | ⟨-, hf⟩
    rotate_left
    · exact fl_none hf
    refine a_callb (pc := 15) (rs := []) (avs := [vR (some a7), vI (1 : Int32)]) Z.1 (w_X4_throwing GA (some a7) (1 : Int32)) (Or.inl rfl) q3120 q86 (by decide) (by decide) dX4_partyOf_15 hl.1 (Nat.le_of_ble_eq_true rfl) hf (ct_V hk ⟨by decide, by decide⟩ X (Or.inl rfl) q3120 q3117 q3119 pv_30 hy_X4_throwing np_X4_throwing rfl dX4_partyOf_15) (fun q h he hX => a_out (unc_of Z.2.1 rfl) Z.2.2.2.1 he hX) (fun x15 h hf => ?kk15)
    refine AW.eq (g2 := F0 m 18 ls [.int x15]) rfl ?_
    exact a_ireturn X Z.2.2.1 Z.2.2.2.1 dX4_partyOf_18 hf
  · have hf := ite_f c hf
    refine a_iload_n (pc := 19) X dX4_partyOf_19 rfl hl 2 rfl ?_
    refine AW.lift (fun _ _ _ _ k => lv_i2l (pc := 20) X.2.2.1 X.2.2.2.1 dX4_partyOf_20 rfl k) ?_
    refine AW.lift (fun _ _ _ _ k => lv_lconst (pc := 21) (v := (0 : Int64)) X.2.2.1 X.2.2.2.1 dX4_partyOf_21 rfl k) ?_
    refine AW.lift (fun _ _ _ _ k => lv_ldc2 (pc := 22) X.2.2.1 X.2.2.2.1 X.2.2.2.2.1 (gw X.1 X.2.1 q3328) dX4_partyOf_22 k) ?_
    refine a_callb (pc := 25) (rs := []) (avs := [vJ (v2.toInt64), vJ (0 : Int64), vJ (3 : Int64)]) Z.1 (w_X4_in GA (v2.toInt64) (0 : Int64) (3 : Int64)) (Or.inl rfl) q3142 q86 (by decide) (by decide) dX4_partyOf_25 hl.1 (Nat.le_of_ble_eq_true rfl) hf (ct_S X (Or.inl rfl) q3142 q86 q3140 q3141 hy_X4_in np_X4_in rfl dX4_partyOf_25) (fun q h he hX => a_out (unc_of Z.2.1 rfl) Z.2.2.2.1 he hX) (fun x25 h hf => ?kk25)
    refine AW.eq (g2 := F0 m 28 ls [.int x25]) rfl ?_
    refine AW.lift2 (fun _ _ _ _ k1 k2 => lv_if_eq (pc := 28) (tgt := 45) X.2.2.1 X.2.2.2.1 dX4_partyOf_28 rfl k1 k2) (fun c => ?_) (fun c => ?_)
    · have hf := ite_t c hf
      refine a_aload_n (pc := 45) X dX4_partyOf_45 rfl hl 0 rfl ?_
      refine AW.lift (fun _ _ _ _ k => lv_iconst (pc := 46) (v := (2 : Int32)) X.2.2.1 X.2.2.2.1 dX4_partyOf_46 rfl k) ?_
      rcases dv_someS hf with ⟨hk, hf⟩ | ⟨-, hf⟩
      rotate_left
      · exact fl_none hf
      refine a_callb (pc := 47) (rs := []) (avs := [vR (some a7), vI (2 : Int32)]) Z.1 (w_X4_throwing GA (some a7) (2 : Int32)) (Or.inl rfl) q3120 q86 (by decide) (by decide) dX4_partyOf_47 hl.1 (Nat.le_of_ble_eq_true rfl) hf (ct_V hk ⟨by decide, by decide⟩ X (Or.inl rfl) q3120 q3117 q3119 pv_30 hy_X4_throwing np_X4_throwing rfl dX4_partyOf_47) (fun q h he hX => a_out (unc_of Z.2.1 rfl) Z.2.2.2.1 he hX) (fun x47 h hf => ?kk47)
      refine AW.eq (g2 := F0 m 50 ls [.int x47]) rfl ?_
      exact a_ireturn X Z.2.2.1 Z.2.2.2.1 dX4_partyOf_50 hf
    · have hf := ite_f c hf
      refine a_aload_n (pc := 31) X dX4_partyOf_31 rfl hl 0 rfl ?_
      refine a_get (pc := 32) (φ := 100) pR_t X Z.1.2.1 (gw X.1 X.2.1 q3025) (fun _ q => q) (by decide) dX4_partyOf_32 hf (fun x32 hf => ?_)
      refine a_iload_n (pc := 35) X dX4_partyOf_35 rfl hl 1 rfl ?_
      refine a_callb (pc := 36) (rs := [vR x32]) (avs := [vI v1]) Z.1 (w_X4_party GA v1) (Or.inl rfl) q3315 q86 (by decide) (by decide) dX4_partyOf_36 hl.1 (Nat.le_of_ble_eq_true rfl) hf (ct_S X (Or.inl rfl) q3315 q86 q3313 q3314 hy_X4_party np_X4_party rfl dX4_partyOf_36) (fun q h he hX => a_out (unc_of Z.2.1 rfl) Z.2.2.2.1 he hX) (fun x36 h hf => ?kk36)
      refine AW.eq (g2 := F0 m 39 ls [.int x36, va_rf x32]) rfl ?_
      refine a_iload_n (pc := 39) X dX4_partyOf_39 rfl hl 2 rfl ?_
      refine AW.lift (fun _ _ _ _ k => lv_iadd (pc := 40) X.2.2.1 X.2.2.2.1 dX4_partyOf_40 k) ?_
      refine a_iaload (pc := 41) X dX4_partyOf_41 hf (fun x41 hf => ?_)
      refine AW.lift (fun _ _ _ _ k => lv_goto (pc := 42) (tgt := 50) X.2.2.1 X.2.2.2.1 dX4_partyOf_42 rfl k) ?_
      exact a_ireturn X Z.2.2.1 Z.2.2.2.1 dX4_partyOf_50 hf
theorem w_X2_nextParty_j65 {r : Except Nat (Int32) × AH} (GA : GA l s0 a0 K lam) (Z : WZ l s0 a0 K p s m c cX2_nextParty yX2_nextParty.cls 4 b R 3 64 meth [] (some (.int)) yX2_nextParty) (v0 : Option Nat) (v2 : Int32) (t0 : Int32) (rc4 : Int32 → Int32 → AM (Int32)) (hrc4 : ∀ (v1 : Int32) (v2 : Int32) (h : AH) (ls : Array Slot), LV ls 4 [(0, vR v0), (1, vI v1), (2, vI v2)] → rc4 v1 v2 h = some r → AW s0 K lam p l e R s m args below meth c (AQ s0 K lam below oI b r s) b h (F0 m 4 ls [])) {h : AH} {ls : Array Slot} (hl : LV ls 4 [(0, vR v0), (2, vI v2)]) (hf : f_X2_nextParty_j65 K rc4 v0 v2 t0 h = some r) : AW s0 K lam p l e R s m args below meth c (AQ s0 K lam below oI b r s) b h (F0 m 65 ls [.int t0]) := by
  unfold f_X2_nextParty_j65 at hf
  have X := Z.1.1
  refine a_istore_n (pc := 65) X dX2_nextParty_65 rfl hl (by decide) (lv' := [(1, vI t0), (0, vR v0), (2, vI v2)]) rfl (fun ls hl => ?_)
  refine a_iinc (pc := 66) (v := (v2 + (1 : Int32))) X dX2_nextParty_66 hl (k := 2) rfl rfl (by decide) (lv' := [(2, vI (v2 + (1 : Int32))), (1, vI t0), (0, vR v0)]) rfl (fun ls hl => ?_)
  refine AW.lift (fun _ _ _ _ k => lv_goto (pc := 69) (tgt := 4) X.2.2.1 X.2.2.2.1 dX2_nextParty_69 rfl k) ?_
  exact hrc4 t0 (v2 + (1 : Int32)) _ _ (hl.sub [2, 1, 0] rfl) hf
theorem w_X2_nextParty_j64 {r : Except Nat (Int32) × AH} (GA : GA l s0 a0 K lam) (Z : WZ l s0 a0 K p s m c cX2_nextParty yX2_nextParty.cls 4 b R 3 64 meth [] (some (.int)) yX2_nextParty) (v0 : Option Nat) (v1 : Int32) (v2 : Int32)  (rc4 : Int32 → Int32 → AM (Int32)) (hrc4 : ∀ (v1 : Int32) (v2 : Int32) (h : AH) (ls : Array Slot), LV ls 4 [(0, vR v0), (1, vI v1), (2, vI v2)] → rc4 v1 v2 h = some r → AW s0 K lam p l e R s m args below meth c (AQ s0 K lam below oI b r s) b h (F0 m 4 ls [])) {h : AH} {ls : Array Slot} (hl : LV ls 4 [(0, vR v0), (1, vI v1), (2, vI v2)]) (hf : f_X2_nextParty_j64 K rc4 v0 v1 v2 h = some r) : AW s0 K lam p l e R s m args below meth c (AQ s0 K lam below oI b r s) b h (F0 m 64 ls []) := by
  unfold f_X2_nextParty_j64 at hf
  have X := Z.1.1
  refine a_iload_n (pc := 64) X dX2_nextParty_64 rfl hl 1 rfl ?_
  exact w_X2_nextParty_j65 GA Z v0 v2 v1 rc4 hrc4 (hl.sub [0, 2] rfl) hf
theorem w_X2_nextParty_j60 {r : Except Nat (Int32) × AH} (GA : GA l s0 a0 K lam) (Z : WZ l s0 a0 K p s m c cX2_nextParty yX2_nextParty.cls 4 b R 3 64 meth [] (some (.int)) yX2_nextParty) (v0 : Option Nat) (v2 : Int32)  (rc4 : Int32 → Int32 → AM (Int32)) (hrc4 : ∀ (v1 : Int32) (v2 : Int32) (h : AH) (ls : Array Slot), LV ls 4 [(0, vR v0), (1, vI v1), (2, vI v2)] → rc4 v1 v2 h = some r → AW s0 K lam p l e R s m args below meth c (AQ s0 K lam below oI b r s) b h (F0 m 4 ls [])) {h : AH} {ls : Array Slot} (hl : LV ls 4 [(0, vR v0), (2, vI v2)]) (hf : f_X2_nextParty_j60 K rc4 v0 v2 h = some r) : AW s0 K lam p l e R s m args below meth c (AQ s0 K lam below oI b r s) b h (F0 m 60 ls []) := by
  unfold f_X2_nextParty_j60 at hf
  have X := Z.1.1
  refine a_iload_n (pc := 60) X dX2_nextParty_60 rfl hl 1 rfl ?_
  refine AW.lift (fun _ _ _ _ k => lv_goto (pc := 61) (tgt := 65) X.2.2.1 X.2.2.2.1 dX2_nextParty_61 rfl k) ?_
  exact w_X2_nextParty_j65 GA Z v0 v2 v2 rc4 hrc4 (hl.sub [0, 1] rfl) hf
theorem w_X2_nextParty_b4 {r : Except Nat (Int32) × AH} (GA : GA l s0 a0 K lam) (Z : WZ l s0 a0 K p s m c cX2_nextParty yX2_nextParty.cls 4 b R 3 64 meth [] (some (.int)) yX2_nextParty) (v0 : Option Nat) (v1 : Int32) (v2 : Int32)  (rc4 : Int32 → Int32 → AM (Int32)) (hrc4 : ∀ (v1 : Int32) (v2 : Int32) (h : AH) (ls : Array Slot), LV ls 4 [(0, vR v0), (1, vI v1), (2, vI v2)] → rc4 v1 v2 h = some r → AW s0 K lam p l e R s m args below meth c (AQ s0 K lam below oI b r s) b h (F0 m 4 ls [])) {h : AH} {ls : Array Slot} (hl : LV ls 4 [(0, vR v0), (1, vI v1), (2, vI v2)]) (hf : f_X2_nextParty_b4 K rc4 v0 v1 v2 h = some r) : AW s0 K lam p l e R s m args below meth c (AQ s0 K lam below oI b r s) b h (F0 m 4 ls []) := by
  unfold f_X2_nextParty_b4 at hf
  have X := Z.1.1
  refine a_iload_n (pc := 4) X dX2_nextParty_4 rfl hl 2 rfl ?_
  refine a_aload_n (pc := 5) X dX2_nextParty_5 rfl hl 0 rfl ?_
  refine a_get (pc := 6) (φ := 302) pR_t X Z.1.2.1 (gw X.1 X.2.1 q232) (fun _ q => q) (by decide) dX2_nextParty_6 hf (fun x6 hf => ?_)
  obtain ⟨a9, rfl, ⟨hk, hf⟩ | ⟨-, hf⟩⟩ := dv_some hf
  rotate_left
  · exact fl_none hf
  refine a_callb (pc := 9) (rs := [vI v2]) (avs := [vR (some a9)]) Z.1 (w_J2_size GA (some a9)) (Or.inl rfl) q1012 q78 (by decide) (by decide) dX2_nextParty_9 hl.1 (Nat.le_of_ble_eq_true rfl) hf (ct_V hk ⟨by decide, by decide⟩ X (Or.inl rfl) q1012 q1720 q1011 q3486 hy_J2_size np_J2_size rfl dX2_nextParty_9) (fun q h he hX => a_out (unc_of Z.2.1 rfl) Z.2.2.2.1 he hX) (fun x9 h hf => ?kk9)
  refine AW.eq (g2 := F0 m 12 ls [.int x9, .int v2]) rfl ?_
  refine AW.lift2 (fun _ _ _ _ k1 k2 => lv_icmp_ge (pc := 12) (tgt := 72) X.2.2.1 X.2.2.2.1 dX2_nextParty_12 rfl k1 k2) (fun c => ?_) (fun c => ?_)
  · have hf := ite_t c hf
    refine a_iload_n (pc := 72) X dX2_nextParty_72 rfl hl 1 rfl ?_
    exact a_ireturn X Z.2.2.1 Z.2.2.2.1 dX2_nextParty_73 hf
  · have hf := ite_f c hf
    refine a_aload_n (pc := 15) X dX2_nextParty_15 rfl hl 0 rfl ?_
    refine a_get (pc := 16) (φ := 302) pR_t X Z.1.2.1 (gw X.1 X.2.1 q232) (fun _ q => q) (by decide) dX2_nextParty_16 hf (fun x16 hf => ?_)
    refine a_iload_n (pc := 19) X dX2_nextParty_19 rfl hl 2 rfl ?_
    obtain ⟨a20, rfl, ⟨hk, hf⟩ | ⟨-, hf⟩⟩ := dv_some hf
    rotate_left
    · exact fl_none hf
    refine a_callb (pc := 20) (rs := []) (avs := [vR (some a20), vI v2]) Z.1 (w_J2_get GA (some a20) v2) (Or.inl rfl) q505 q78 (by decide) (by decide) dX2_nextParty_20 hl.1 (Nat.le_of_ble_eq_true rfl) hf (ct_V hk ⟨by decide, by decide⟩ X (Or.inl rfl) q505 q1828 q503 q3487 hy_J2_get np_J2_get rfl dX2_nextParty_20) (fun q h he hX => a_out (unc_of Z.2.1 rfl) Z.2.2.2.1 he hX) (fun x20 h hf => ?kk20)
    refine AW.eq (g2 := F0 m 23 ls [va_rf x20]) rfl ?_
    refine a_checkcast (pc := 23) X (gw X.1 X.2.1 q950) (cs_JumpHall_Party GA) dX2_nextParty_23 hf (fun hf => ?_)
    refine a_astore_n (pc := 26) X dX2_nextParty_26 rfl hl (by decide) (lv' := [(3, vR x20), (0, vR v0), (1, vI v1), (2, vI v2)]) rfl (fun ls hl => ?_)
    refine a_aload_n (pc := 27) X dX2_nextParty_27 rfl hl 0 rfl ?_
    obtain ⟨a28, rfl, ⟨hk, hf⟩ | ⟨-, hf⟩⟩ := dv_some hf
    rotate_left
    · exact fl_none hf
    refine a_callb (pc := 28) (rs := []) (avs := [vR (some a28)]) Z.1 (w_X9_isBooked GA (some a28)) (Or.inl rfl) q2429 q108 (by decide) (by decide) dX2_nextParty_28 hl.1 (Nat.le_of_ble_eq_true rfl) hf (ct_V hk ⟨by decide, by decide⟩ X (Or.inl rfl) q2429 q2426 q2427 q2428 hy_X9_isBooked np_X9_isBooked rfl dX2_nextParty_28) (fun q h he hX => a_out (unc_of Z.2.1 rfl) Z.2.2.2.1 he hX) (fun x28 h hf => ?kk28)
    refine AW.eq (g2 := F0 m 31 ls [.int x28]) rfl ?_
    refine AW.lift2 (fun _ _ _ _ k1 k2 => lv_if_eq (pc := 31) (tgt := 64) X.2.2.1 X.2.2.2.1 dX2_nextParty_31 rfl k1 k2) (fun c => ?_) (fun c => ?_)
    · have hf := ite_t c hf
      exact w_X2_nextParty_j64 GA Z v0 v1 v2  rc4 hrc4 (hl.sub [1, 2, 3] rfl) hf
    · have hf := ite_f c hf
      refine a_iload_n (pc := 34) X dX2_nextParty_34 rfl hl 2 rfl ?_
      refine AW.lift (fun _ _ _ _ k => lv_iconst (pc := 35) (v := (-1 : Int32)) X.2.2.1 X.2.2.2.1 dX2_nextParty_35 rfl k) ?_
      refine AW.lift2 (fun _ _ _ _ k1 k2 => lv_icmp_eq (pc := 36) (tgt := 60) X.2.2.1 X.2.2.2.1 dX2_nextParty_36 rfl k1 k2) (fun c => ?_) (fun c => ?_)
      · have hf := ite_t c hf
        exact w_X2_nextParty_j60 GA Z v0 v2  rc4 hrc4 (hl.sub [1, 3] rfl) hf
      · have hf := ite_f c hf
        refine a_aload_n (pc := 39) X dX2_nextParty_39 rfl hl 0 rfl ?_
        refine a_getN (pc := 40) (φ := 600) pI_t X Z.1.2.1 (gnF X.1 X.2.1 q962) (fun _ q => q) (by decide) dX2_nextParty_40 hf (fun x40 hf => ?_)
        refine a_aload_n (pc := 43) X dX2_nextParty_43 rfl hl 1 rfl ?_
        refine a_get (pc := 44) (φ := 302) pR_t X Z.1.2.1 (gw X.1 X.2.1 q232) (fun _ q => q) (by decide) dX2_nextParty_44 hf (fun x44 hf => ?_)
        refine a_iload_n (pc := 47) X dX2_nextParty_47 rfl hl 2 rfl ?_
        obtain ⟨a48, rfl, ⟨hk, hf⟩ | ⟨-, hf⟩⟩ := dv_some hf
        rotate_left
        · exact fl_none hf
        refine a_callb (pc := 48) (rs := [vI x40]) (avs := [vR (some a48), vI v1]) Z.1 (w_J2_get GA (some a48) v1) (Or.inl rfl) q505 q78 (by decide) (by decide) dX2_nextParty_48 hl.1 (Nat.le_of_ble_eq_true rfl) hf (ct_V hk ⟨by decide, by decide⟩ X (Or.inl rfl) q505 q1828 q503 q3487 hy_J2_get np_J2_get rfl dX2_nextParty_48) (fun q h he hX => a_out (unc_of Z.2.1 rfl) Z.2.2.2.1 he hX) (fun x48 h hf => ?kk48)
        refine AW.eq (g2 := F0 m 51 ls [va_rf x48, .int x40]) rfl ?_
        refine a_checkcast (pc := 51) X (gw X.1 X.2.1 q950) (cs_JumpHall_Party GA) dX2_nextParty_51 hf (fun hf => ?_)
        refine a_getN (pc := 54) (φ := 600) pI_t X Z.1.2.1 (gnF X.1 X.2.1 q962) (fun _ q => q) (by decide) dX2_nextParty_54 hf (fun x54 hf => ?_)
        refine AW.lift2 (fun _ _ _ _ k1 k2 => lv_icmp_ge (pc := 57) (tgt := 64) X.2.2.1 X.2.2.2.1 dX2_nextParty_57 rfl k1 k2) (fun c => ?_) (fun c => ?_)
        · have hf := ite_t c hf
          exact w_X2_nextParty_j64 GA Z v0 v1 v2  rc4 hrc4 (hl.sub [1, 2, 3] rfl) hf
        · have hf := ite_f c hf
          exact w_X2_nextParty_j60 GA Z v0 v2  rc4 hrc4 (hl.sub [1, 3] rfl) hf
theorem w_X2_nextParty_l4 {r : Except Nat (Int32) × AH} (GA : GA l s0 a0 K lam) (Z : WZ l s0 a0 K p s m c cX2_nextParty yX2_nextParty.cls 4 b R 3 64 meth [] (some (.int)) yX2_nextParty) (v0 : Option Nat)  : ∀ (n : Nat) (v1 : Int32) (v2 : Int32) (h : AH) (ls : Array Slot), LV ls 4 [(0, vR v0), (1, vI v1), (2, vI v2)] → f_X2_nextParty_l4 K v0 n v1 v2 h = some r → AW s0 K lam p l e R s m args below meth c (AQ s0 K lam below oI b r s) b h (F0 m 4 ls []) := by
  intro n
  induction n with
  | zero => intro v1 v2 h ls hl hf; exact fl_no (h := h) hf
  | succ n ih => intro v1 v2 h ls hl hf; exact w_X2_nextParty_b4 GA Z v0 v1 v2 (f_X2_nextParty_l4 K v0 n) ih hl hf
theorem np_X2_nextParty : npar yX2_nextParty.desc 0 := by unfold npar; decide +kernel
theorem hy_X2_nextParty : yX2_nextParty.cls ≠ "java/lang/invoke/MethodHandle" ∧ yX2_nextParty.cls ≠ "java/lang/invoke/VarHandle" := by decide +kernel
theorem w_X2_nextParty (GA : GA l s0 a0 K lam) (v0 : Option Nat) : AMet l s0 K lam yX2_nextParty (Cond.code yX2_nextParty cX2_nextParty (4 : Nat) (Option.some ClassFile.FieldType.int)) 3 64 [vR v0] oI (f_X2_nextParty K v0) := by
  refine AMet.of GA.1 (plainFor_of_name (by decide +kernel)) (Nat.le_of_ble_eq_true rfl) ?_
  intro b r hf p e s m args below meth c X hr hlk hnm hnd ht ls hl
  have Z : WZ l s0 a0 K p s m c cX2_nextParty yX2_nextParty.cls 4 b { frames := 3, cells := K 0 - aX b, slots := K 1 - aW b, locals := 64 } 3 64 meth [] (some (.int)) yX2_nextParty := ⟨⟨X, GA.2.1, GA.2.2.1, rfl, rfl, Nat.le_refl _, Nat.le_refl _⟩, tab_nil ht, hr, hlk, hnm, hnd⟩
  unfold f_X2_nextParty at hf
  clear hr hlk hnm hnd ht
  refine AW.lift (fun _ _ _ _ k => lv_iconst (pc := 0) (v := (-1 : Int32)) X.2.2.1 X.2.2.2.1 dX2_nextParty_0 rfl k) ?_
  refine a_istore_n (pc := 1) X dX2_nextParty_1 rfl hl (by decide) (lv' := [(1, vI (-1 : Int32)), (0, vR v0)]) rfl (fun ls hl => ?_)
  refine AW.lift (fun _ _ _ _ k => lv_iconst (pc := 2) (v := (0 : Int32)) X.2.2.1 X.2.2.2.1 dX2_nextParty_2 rfl k) ?_
  refine a_istore_n (pc := 3) X dX2_nextParty_3 rfl hl (by decide) (lv' := [(2, vI (0 : Int32)), (1, vI (-1 : Int32)), (0, vR v0)]) rfl (fun ls hl => ?_)
  exact w_X2_nextParty_l4 GA Z v0  FU (-1 : Int32) (0 : Int32) _ _ (hl.sub [2, 1, 0] rfl) hf
theorem w_X1_nextParty_j18 {r : Except Nat (Int32) × AH} (GA : GA l s0 a0 K lam) (Z : WZ l s0 a0 K p s m c cX1_nextParty yX1_nextParty.cls 2 b R 9 420 meth [] (some (.int)) yX1_nextParty) (v1 : Int32) (t0 : Int32)  {h : AH} {ls : Array Slot} (hl : LV ls 2 [(1, vI v1)]) (hf : f_X1_nextParty_j18 K v1 t0 h = some r) : AW s0 K lam p l e R s m args below meth c (AQ s0 K lam below oI b r s) b h (F0 m 18 ls [.int t0]) := by
  unfold f_X1_nextParty_j18 at hf
  have X := Z.1.1
  refine a_callb (pc := 18) (rs := []) (avs := [vI t0]) Z.1 (w_X1_checkElement GA t0) (Or.inl rfl) q1968 q74 (by decide) (by decide) dX1_nextParty_18 hl.1 (Nat.le_of_ble_eq_true rfl) hf (ct_S X (Or.inl rfl) q1968 q74 q1966 q1967 hy_X1_checkElement np_X1_checkElement rfl dX1_nextParty_18) (fun q h he hX => a_out (unc_of Z.2.1 rfl) Z.2.2.2.1 he hX) (fun _ h hf => ?kk18)
  refine AW.eq (g2 := F0 m 21 ls []) rfl ?_
  refine a_iload_n (pc := 21) X dX1_nextParty_21 rfl hl 0 rfl ?_
  exact a_ireturn X Z.2.2.1 Z.2.2.2.1 dX1_nextParty_22 hf
theorem np_X1_nextParty : npar yX1_nextParty.desc 0 := by unfold npar; decide +kernel
theorem hy_X1_nextParty : yX1_nextParty.cls ≠ "java/lang/invoke/MethodHandle" ∧ yX1_nextParty.cls ≠ "java/lang/invoke/VarHandle" := by decide +kernel
theorem w_X1_nextParty (GA : GA l s0 a0 K lam) (v0 : Option Nat) : AMet l s0 K lam yX1_nextParty (Cond.code yX1_nextParty cX1_nextParty (2 : Nat) (Option.some ClassFile.FieldType.int)) 9 420 [vR v0] oI (f_X1_nextParty K v0) := by
  refine AMet.of GA.1 (plainFor_of_name (by decide +kernel)) (Nat.le_of_ble_eq_true rfl) ?_
  intro b r hf p e s m args below meth c X hr hlk hnm hnd ht ls hl
  have Z : WZ l s0 a0 K p s m c cX1_nextParty yX1_nextParty.cls 2 b { frames := 9, cells := K 0 - aX b, slots := K 1 - aW b, locals := 420 } 9 420 meth [] (some (.int)) yX1_nextParty := ⟨⟨X, GA.2.1, GA.2.2.1, rfl, rfl, Nat.le_refl _, Nat.le_refl _⟩, tab_nil ht, hr, hlk, hnm, hnd⟩
  unfold f_X1_nextParty at hf
  clear hr hlk hnm hnd ht
  refine a_aload_n (pc := 0) X dX1_nextParty_0 rfl hl 0 rfl ?_
  refine a_get (pc := 1) (φ := 200) pR_t X Z.1.2.1 (gw X.1 X.2.1 q309) (fun _ q => q) (by decide) dX1_nextParty_1 hf (fun x1 hf => ?_)
  obtain ⟨a4, rfl, ⟨hk, hf⟩ | ⟨-, hf⟩⟩ := dv_some hf
  rotate_left
  · exact fl_none hf
  refine a_callb (pc := 4) (rs := []) (avs := [vR (some a4)]) Z.1 (w_X2_nextParty GA (some a4)) (Or.inl rfl) q2447 q75 (by decide) (by decide) dX1_nextParty_4 hl.1 (Nat.le_of_ble_eq_true rfl) hf (ct_V hk ⟨by decide, by decide⟩ X (Or.inl rfl) q2447 q2444 q2445 q2446 hy_X2_nextParty np_X2_nextParty rfl dX1_nextParty_4) (fun q h he hX => a_out (unc_of Z.2.1 rfl) Z.2.2.2.1 he hX) (fun x4 h hf => ?kk4)
  refine AW.eq (g2 := F0 m 7 ls [.int x4]) rfl ?_
  refine a_istore_n (pc := 7) X dX1_nextParty_7 rfl hl (by decide) (lv' := [(1, vI x4), (0, vR v0)]) rfl (fun ls hl => ?_)
  refine a_iload_n (pc := 8) X dX1_nextParty_8 rfl hl 0 rfl ?_
  refine AW.lift (fun _ _ _ _ k => lv_iconst (pc := 9) (v := (-1 : Int32)) X.2.2.1 X.2.2.2.1 dX1_nextParty_9 rfl k) ?_
  refine AW.lift2 (fun _ _ _ _ k1 k2 => lv_icmp_eq (pc := 10) (tgt := 17) X.2.2.1 X.2.2.2.1 dX1_nextParty_10 rfl k1 k2) (fun c => ?_) (fun c => ?_)
  · have hf := ite_t c hf
    refine AW.lift (fun _ _ _ _ k => lv_iconst (pc := 17) (v := (0 : Int32)) X.2.2.1 X.2.2.2.1 dX1_nextParty_17 rfl k) ?_
    exact w_X1_nextParty_j18 GA Z x4 (0 : Int32)  (hl.sub [0] rfl) hf
  · have hf := ite_f c hf
    refine AW.lift (fun _ _ _ _ k => lv_iconst (pc := 13) (v := (1 : Int32)) X.2.2.1 X.2.2.2.1 dX1_nextParty_13 rfl k) ?_
    refine AW.lift (fun _ _ _ _ k => lv_goto (pc := 14) (tgt := 18) X.2.2.1 X.2.2.2.1 dX1_nextParty_14 rfl k) ?_
    exact w_X1_nextParty_j18 GA Z x4 (1 : Int32)  (hl.sub [0] rfl) hf
theorem np_X0_nextParty : npar yX0_nextParty.desc 2 := by unfold npar; decide +kernel
theorem hy_X0_nextParty : yX0_nextParty.cls ≠ "java/lang/invoke/MethodHandle" ∧ yX0_nextParty.cls ≠ "java/lang/invoke/VarHandle" := by decide +kernel
theorem w_X0_nextParty (GA : GA l s0 a0 K lam) (v0 : Option Nat) (v1 : Option Nat) : AMet l s0 K lam yX0_nextParty (Cond.codeWith yX0_nextParty cX0_nextParty (3 : Nat) (Option.some ClassFile.FieldType.int) [((0 : Nat), (8 : Nat), (11 : Nat), (39 : Nat))]) 10 441 [vR v0, vR v1] oI (f_X0_nextParty K v0 v1) := by
  refine AMet.ofW GA.1 (plainFor_of_name (by decide +kernel)) (Nat.le_of_ble_eq_true rfl) ?_
  intro b r hf p e s m args below meth c X hr hlk hnm hnd ht ls hl
  have Z : WZ l s0 a0 K p s m c cX0_nextParty yX0_nextParty.cls 3 b { frames := 10, cells := K 0 - aX b, slots := K 1 - aW b, locals := 441 } 10 441 meth [(0, 8, 11, 39)] (some (.int)) yX0_nextParty := ⟨⟨X, GA.2.1, GA.2.2.1, rfl, rfl, Nat.le_refl _, Nat.le_refl _⟩, ht, hr, hlk, hnm, hnd⟩
  unfold f_X0_nextParty at hf
  clear hr hlk hnm hnd ht
  refine a_aload_n (pc := 0) X dX0_nextParty_0 rfl hl 1 rfl ?_
  refine AW.lift (fun _ _ _ _ k => lv_iconst (pc := 1) (v := (0 : Int32)) X.2.2.1 X.2.2.2.1 dX0_nextParty_1 rfl k) ?_
  refine a_aload_n (pc := 2) X dX0_nextParty_2 rfl hl 0 rfl ?_
  obtain ⟨a3, rfl, ⟨hk, hf⟩ | ⟨-, hf⟩⟩ := dv_tsome hf
  rotate_left
  · exact fl_tnone hf
  refine a_callt (pc := 3) (rs := [vI (0 : Int32), vR v1]) (avs := [vR (some a3)]) Z.1 (w_X1_nextParty GA (some a3)) (Or.inl rfl) q2443 q74 (by decide) (by decide) dX0_nextParty_3 hl.1 (Nat.le_of_ble_eq_true rfl) hf (ct_V hk ⟨by decide, by decide⟩ X (Or.inl rfl) q2443 q2440 q2441 q2442 hy_X1_nextParty np_X1_nextParty rfl dX0_nextParty_3) (fun q h hf hX => ?hx3) (fun x3 h hf => ?kk3)
  case hx3 =>
    rcases ctc_some hf with ⟨hy, hf⟩ | ⟨hn0, hf⟩
    · refine a_catchH (st := 0) (en := 8) (hp := 11) (ct := 39) (pre := []) (suf := []) X hX Z.2.1 rfl (fun z hz => nomatch hz) (by decide) (Or.inr ⟨by decide, _, gw X.1 X.2.1 q1961, (cs_X20 GA) _ hy⟩) (AW.eq (g2 := F0 m 11 ls [va_rf (some q)]) rfl ?_)
      refine a_astore_n (pc := 11) X dX0_nextParty_11 rfl hl (by decide) (lv' := [(2, vR (some q)), (0, vR (some a3)), (1, vR v1)]) rfl (fun ls hl => ?_)
      refine AW.lift (fun _ _ _ _ k => lv_iconst (pc := 12) (v := (1 : Int32)) X.2.2.1 X.2.2.2.1 dX0_nextParty_12 rfl k) ?_
      exact a_ireturn X Z.2.2.1 Z.2.2.2.1 dX0_nextParty_13 hf
    · skip
      exact a_outH X Z.2.1 (by intro z hz; simp only [List.mem_cons, List.not_mem_nil, or_false] at hz; rcases hz with rfl <;> first | exact Or.inl (by decide) | exact Or.inr ⟨by decide, _, gw X.1 X.2.1 q1961, (nc_12_13_14_16_17_18_19_21_java_util_NoSuchElementException GA _ (by simpa using hn0)).2.2⟩) Z.2.2.2.1 (th_eq hf) hX
  refine AW.eq (g2 := F0 m 6 ls [.int x3, .int (0 : Int32), va_rf v1]) rfl ?_
  refine AW.lift (fun _ _ _ _ k => lv_i2l (pc := 6) X.2.2.1 X.2.2.2.1 dX0_nextParty_6 rfl k) ?_
  refine a_lastore (pc := 7) X dX0_nextParty_7 hf (fun h hf => ?_)
  refine AW.lift (fun _ _ _ _ k => lv_goto (pc := 8) (tgt := 14) X.2.2.1 X.2.2.2.1 dX0_nextParty_8 rfl k) ?_
  refine AW.lift (fun _ _ _ _ k => lv_iconst (pc := 14) (v := (0 : Int32)) X.2.2.1 X.2.2.2.1 dX0_nextParty_14 rfl k) ?_
  exact a_ireturn X Z.2.2.1 Z.2.2.2.1 dX0_nextParty_15 hf
theorem w_X4_nextParty_j81 {r : Except Nat (Int32) × AH} (GA : GA l s0 a0 K lam) (Z : WZ l s0 a0 K p s m c cX4_nextParty yX4_nextParty.cls 4 b R 1 21 meth [] (some (.int)) yX4_nextParty) (v0 : Option Nat) (v1 : Int32)   {h : AH} {ls : Array Slot} (hl : LV ls 4 [(0, vR v0), (1, vI v1)]) (hf : f_X4_nextParty_j81 K v0 v1 h = some r) : AW s0 K lam p l e R s m args below meth c (AQ s0 K lam below oI b r s) b h (F0 m 81 ls []) := by
  unfold f_X4_nextParty_j81 at hf
  have X := Z.1.1
  refine a_iload_n (pc := 81) X dX4_nextParty_81 rfl hl 1 rfl ?_
  refine AW.lift (fun _ _ _ _ k => lv_iconst (pc := 82) (v := (-1 : Int32)) X.2.2.1 X.2.2.2.1 dX4_nextParty_82 rfl k) ?_
  refine AW.lift2 (fun _ _ _ _ k1 k2 => lv_icmp_ne (pc := 83) (tgt := 94) X.2.2.1 X.2.2.2.1 dX4_nextParty_83 rfl k2 k1) (fun c => ?_) (fun c => ?_)
  · have hf := ite_t c hf
    refine a_aload_n (pc := 86) X dX4_nextParty_86 rfl hl 0 rfl ?_
    refine AW.lift (fun _ _ _ _ k => lv_iconst (pc := 87) (v := (1 : Int32)) X.2.2.1 X.2.2.2.1 dX4_nextParty_87 rfl k) ?_
    obtain ⟨a88, rfl, ⟨hk, hf⟩ | ⟨-, hf⟩⟩ := dv_some hf
    rotate_left
    · exact fl_none hf
    refine a_callb (pc := 88) (rs := []) (avs := [vR (some a88), vI (1 : Int32)]) Z.1 (w_X4_throwing GA (some a88) (1 : Int32)) (Or.inl rfl) q3120 q86 (by decide) (by decide) dX4_nextParty_88 hl.1 (Nat.le_of_ble_eq_true rfl) hf (ct_V hk ⟨by decide, by decide⟩ X (Or.inl rfl) q3120 q3117 q3119 pv_30 hy_X4_throwing np_X4_throwing rfl dX4_nextParty_88) (fun q h he hX => a_out (unc_of Z.2.1 rfl) Z.2.2.2.1 he hX) (fun x88 h hf => ?kk88)
    refine AW.eq (g2 := F0 m 91 ls [.int x88]) rfl ?_
    refine AW.lift (fun _ _ _ _ k => lv_goto (pc := 91) (tgt := 95) X.2.2.1 X.2.2.2.1 dX4_nextParty_91 rfl k) ?_
    exact a_ireturn X Z.2.2.1 Z.2.2.2.1 dX4_nextParty_95 hf
  · have hf := ite_f c hf
    refine a_iload_n (pc := 94) X dX4_nextParty_94 rfl hl 1 rfl ?_
    exact a_ireturn X Z.2.2.1 Z.2.2.2.1 dX4_nextParty_95 hf
theorem w_X4_nextParty_j74 {r : Except Nat (Int32) × AH} (GA : GA l s0 a0 K lam) (Z : WZ l s0 a0 K p s m c cX4_nextParty yX4_nextParty.cls 4 b R 1 21 meth [] (some (.int)) yX4_nextParty) (v0 : Option Nat) (v2 : Int32) (t0 : Int32) (rc9 : Int32 → Int32 → AM (Int32)) (hrc9 : ∀ (v1 : Int32) (v2 : Int32) (h : AH) (ls : Array Slot), LV ls 4 [(0, vR v0), (1, vI v1), (2, vI v2)] → rc9 v1 v2 h = some r → AW s0 K lam p l e R s m args below meth c (AQ s0 K lam below oI b r s) b h (F0 m 9 ls [])) {h : AH} {ls : Array Slot} (hl : LV ls 4 [(0, vR v0), (2, vI v2)]) (hf : f_X4_nextParty_j74 K rc9 v0 v2 t0 h = some r) : AW s0 K lam p l e R s m args below meth c (AQ s0 K lam below oI b r s) b h (F0 m 74 ls [.int t0]) := by
  unfold f_X4_nextParty_j74 at hf
  have X := Z.1.1
  refine a_istore_n (pc := 74) X dX4_nextParty_74 rfl hl (by decide) (lv' := [(1, vI t0), (0, vR v0), (2, vI v2)]) rfl (fun ls hl => ?_)
  refine a_iinc (pc := 75) (v := (v2 + (1 : Int32))) X dX4_nextParty_75 hl (k := 2) rfl rfl (by decide) (lv' := [(2, vI (v2 + (1 : Int32))), (1, vI t0), (0, vR v0)]) rfl (fun ls hl => ?_)
  refine AW.lift (fun _ _ _ _ k => lv_goto (pc := 78) (tgt := 9) X.2.2.1 X.2.2.2.1 dX4_nextParty_78 rfl k) ?_
  exact hrc9 t0 (v2 + (1 : Int32)) _ _ (hl.sub [2, 1, 0] rfl) hf
theorem w_X4_nextParty_j64 {r : Except Nat (Int32) × AH} (GA : GA l s0 a0 K lam) (Z : WZ l s0 a0 K p s m c cX4_nextParty yX4_nextParty.cls 4 b R 1 21 meth [] (some (.int)) yX4_nextParty) (v0 : Option Nat) (v1 : Int32) (v2 : Int32) (t0 : Int32) (rc9 : Int32 → Int32 → AM (Int32)) (hrc9 : ∀ (v1 : Int32) (v2 : Int32) (h : AH) (ls : Array Slot), LV ls 4 [(0, vR v0), (1, vI v1), (2, vI v2)] → rc9 v1 v2 h = some r → AW s0 K lam p l e R s m args below meth c (AQ s0 K lam below oI b r s) b h (F0 m 9 ls [])) {h : AH} {ls : Array Slot} (hl : LV ls 4 [(0, vR v0), (1, vI v1), (2, vI v2)]) (hf : f_X4_nextParty_j64 K rc9 v0 v1 v2 t0 h = some r) : AW s0 K lam p l e R s m args below meth c (AQ s0 K lam below oI b r s) b h (F0 m 64 ls [.int t0]) := by
  unfold f_X4_nextParty_j64 at hf
  have X := Z.1.1
  refine a_istore_n (pc := 64) X dX4_nextParty_64 rfl hl (by decide) (lv' := [(3, vI t0), (0, vR v0), (1, vI v1), (2, vI v2)]) rfl (fun ls hl => ?_)
  refine a_iload_n (pc := 65) X dX4_nextParty_65 rfl hl 0 rfl ?_
  refine AW.lift2 (fun _ _ _ _ k1 k2 => lv_if_eq (pc := 66) (tgt := 73) X.2.2.1 X.2.2.2.1 dX4_nextParty_66 rfl k1 k2) (fun c => ?_) (fun c => ?_)
  · have hf := ite_t c hf
    refine a_iload_n (pc := 73) X dX4_nextParty_73 rfl hl 2 rfl ?_
    exact w_X4_nextParty_j74 GA Z v0 v2 v1 rc9 hrc9 (hl.sub [1, 3] rfl) hf
  · have hf := ite_f c hf
    refine a_iload_n (pc := 69) X dX4_nextParty_69 rfl hl 3 rfl ?_
    refine AW.lift (fun _ _ _ _ k => lv_goto (pc := 70) (tgt := 74) X.2.2.1 X.2.2.2.1 dX4_nextParty_70 rfl k) ?_
    exact w_X4_nextParty_j74 GA Z v0 v2 v2 rc9 hrc9 (hl.sub [1, 3] rfl) hf
theorem w_X4_nextParty_j59 {r : Except Nat (Int32) × AH} (GA : GA l s0 a0 K lam) (Z : WZ l s0 a0 K p s m c cX4_nextParty yX4_nextParty.cls 4 b R 1 21 meth [] (some (.int)) yX4_nextParty) (v0 : Option Nat) (v1 : Int32) (v2 : Int32)  (rc9 : Int32 → Int32 → AM (Int32)) (hrc9 : ∀ (v1 : Int32) (v2 : Int32) (h : AH) (ls : Array Slot), LV ls 4 [(0, vR v0), (1, vI v1), (2, vI v2)] → rc9 v1 v2 h = some r → AW s0 K lam p l e R s m args below meth c (AQ s0 K lam below oI b r s) b h (F0 m 9 ls [])) {h : AH} {ls : Array Slot} (hl : LV ls 4 [(0, vR v0), (1, vI v1), (2, vI v2)]) (hf : f_X4_nextParty_j59 K rc9 v0 v1 v2 h = some r) : AW s0 K lam p l e R s m args below meth c (AQ s0 K lam below oI b r s) b h (F0 m 59 ls []) := by
  unfold f_X4_nextParty_j59 at hf
  have X := Z.1.1
  refine AW.lift (fun _ _ _ _ k => lv_iconst (pc := 59) (v := (1 : Int32)) X.2.2.1 X.2.2.2.1 dX4_nextParty_59 rfl k) ?_
  refine AW.lift (fun _ _ _ _ k => lv_goto (pc := 60) (tgt := 64) X.2.2.1 X.2.2.2.1 dX4_nextParty_60 rfl k) ?_
  exact w_X4_nextParty_j64 GA Z v0 v1 v2 (1 : Int32) rc9 hrc9 (hl.sub [0, 1, 2] rfl) hf
theorem w_X4_nextParty_j63 {r : Except Nat (Int32) × AH} (GA : GA l s0 a0 K lam) (Z : WZ l s0 a0 K p s m c cX4_nextParty yX4_nextParty.cls 4 b R 1 21 meth [] (some (.int)) yX4_nextParty) (v0 : Option Nat) (v1 : Int32) (v2 : Int32)  (rc9 : Int32 → Int32 → AM (Int32)) (hrc9 : ∀ (v1 : Int32) (v2 : Int32) (h : AH) (ls : Array Slot), LV ls 4 [(0, vR v0), (1, vI v1), (2, vI v2)] → rc9 v1 v2 h = some r → AW s0 K lam p l e R s m args below meth c (AQ s0 K lam below oI b r s) b h (F0 m 9 ls [])) {h : AH} {ls : Array Slot} (hl : LV ls 4 [(0, vR v0), (1, vI v1), (2, vI v2)]) (hf : f_X4_nextParty_j63 K rc9 v0 v1 v2 h = some r) : AW s0 K lam p l e R s m args below meth c (AQ s0 K lam below oI b r s) b h (F0 m 63 ls []) := by
  unfold f_X4_nextParty_j63 at hf
  have X := Z.1.1
  refine AW.lift (fun _ _ _ _ k => lv_iconst (pc := 63) (v := (0 : Int32)) X.2.2.1 X.2.2.2.1 dX4_nextParty_63 rfl k) ?_
  exact w_X4_nextParty_j64 GA Z v0 v1 v2 (0 : Int32) rc9 hrc9 (hl.sub [0, 1, 2] rfl) hf
theorem w_X4_nextParty_b9 {r : Except Nat (Int32) × AH} (GA : GA l s0 a0 K lam) (Z : WZ l s0 a0 K p s m c cX4_nextParty yX4_nextParty.cls 4 b R 1 21 meth [] (some (.int)) yX4_nextParty) (v0 : Option Nat) (v1 : Int32) (v2 : Int32)  (rc9 : Int32 → Int32 → AM (Int32)) (hrc9 : ∀ (v1 : Int32) (v2 : Int32) (h : AH) (ls : Array Slot), LV ls 4 [(0, vR v0), (1, vI v1), (2, vI v2)] → rc9 v1 v2 h = some r → AW s0 K lam p l e R s m args below meth c (AQ s0 K lam below oI b r s) b h (F0 m 9 ls [])) {h : AH} {ls : Array Slot} (hl : LV ls 4 [(0, vR v0), (1, vI v1), (2, vI v2)]) (hf : f_X4_nextParty_b9 K rc9 v0 v1 v2 h = some r) : AW s0 K lam p l e R s m args below meth c (AQ s0 K lam below oI b r s) b h (F0 m 9 ls []) := by
  unfold f_X4_nextParty_b9 at hf
  have X := Z.1.1
  refine a_iload_n (pc := 9) X dX4_nextParty_9 rfl hl 2 rfl ?_
  refine a_aload_n (pc := 10) X dX4_nextParty_10 rfl hl 0 rfl ?_
  refine a_get (pc := 11) (φ := 100) pR_t X Z.1.2.1 (gw X.1 X.2.1 q3025) (fun _ q => q) (by decide) dX4_nextParty_11 hf (fun x11 hf => ?_)
  refine AW.lift (fun _ _ _ _ k => lv_iconst (pc := 14) (v := (4 : Int32)) X.2.2.1 X.2.2.2.1 dX4_nextParty_14 rfl k) ?_
  refine a_iaload (pc := 15) X dX4_nextParty_15 hf (fun x15 hf => ?_)
  refine AW.lift2 (fun _ _ _ _ k1 k2 => lv_icmp_ge (pc := 16) (tgt := 81) X.2.2.1 X.2.2.2.1 dX4_nextParty_16 rfl k1 k2) (fun c => ?_) (fun c => ?_)
  · have hf := ite_t c hf
    exact w_X4_nextParty_j81 GA Z v0 v1   (hl.sub [0, 1] rfl) hf
  · have hf := ite_f c hf
    refine a_aload_n (pc := 19) X dX4_nextParty_19 rfl hl 0 rfl ?_
    refine a_get (pc := 20) (φ := 100) pR_t X Z.1.2.1 (gw X.1 X.2.1 q3025) (fun _ q => q) (by decide) dX4_nextParty_20 hf (fun x20 hf => ?_)
    refine a_iload_n (pc := 23) X dX4_nextParty_23 rfl hl 2 rfl ?_
    refine a_callb (pc := 24) (rs := [vR x20]) (avs := [vI v2]) Z.1 (w_X4_party GA v2) (Or.inl rfl) q3315 q86 (by decide) (by decide) dX4_nextParty_24 hl.1 (Nat.le_of_ble_eq_true rfl) hf (ct_S X (Or.inl rfl) q3315 q86 q3313 q3314 hy_X4_party np_X4_party rfl dX4_nextParty_24) (fun q h he hX => a_out (unc_of Z.2.1 rfl) Z.2.2.2.1 he hX) (fun x24 h hf => ?kk24)
    refine AW.eq (g2 := F0 m 27 ls [.int x24, va_rf x20]) rfl ?_
    refine AW.lift (fun _ _ _ _ k => lv_iconst (pc := 27) (v := (2 : Int32)) X.2.2.1 X.2.2.2.1 dX4_nextParty_27 rfl k) ?_
    refine AW.lift (fun _ _ _ _ k => lv_iadd (pc := 28) X.2.2.1 X.2.2.2.1 dX4_nextParty_28 k) ?_
    refine a_iaload (pc := 29) X dX4_nextParty_29 hf (fun x29 hf => ?_)
    refine AW.lift2 (fun _ _ _ _ k1 k2 => lv_if_ne (pc := 30) (tgt := 63) X.2.2.1 X.2.2.2.1 dX4_nextParty_30 rfl k2 k1) (fun c => ?_) (fun c => ?_)
    · have hf := ite_t c hf
      refine a_iload_n (pc := 33) X dX4_nextParty_33 rfl hl 1 rfl ?_
      refine AW.lift (fun _ _ _ _ k => lv_iconst (pc := 34) (v := (-1 : Int32)) X.2.2.1 X.2.2.2.1 dX4_nextParty_34 rfl k) ?_
      refine AW.lift2 (fun _ _ _ _ k1 k2 => lv_icmp_eq (pc := 35) (tgt := 59) X.2.2.1 X.2.2.2.1 dX4_nextParty_35 rfl k1 k2) (fun c => ?_) (fun c => ?_)
      · have hf := ite_t c hf
        exact w_X4_nextParty_j59 GA Z v0 v1 v2  rc9 hrc9 (hl.sub [0, 1, 2] rfl) hf
      · have hf := ite_f c hf
        refine a_aload_n (pc := 38) X dX4_nextParty_38 rfl hl 0 rfl ?_
        refine a_get (pc := 39) (φ := 100) pR_t X Z.1.2.1 (gw X.1 X.2.1 q3025) (fun _ q => q) (by decide) dX4_nextParty_39 hf (fun x39 hf => ?_)
        refine a_iload_n (pc := 42) X dX4_nextParty_42 rfl hl 2 rfl ?_
        refine a_callb (pc := 43) (rs := [vR x39]) (avs := [vI v2]) Z.1 (w_X4_party GA v2) (Or.inl rfl) q3315 q86 (by decide) (by decide) dX4_nextParty_43 hl.1 (Nat.le_of_ble_eq_true rfl) hf (ct_S X (Or.inl rfl) q3315 q86 q3313 q3314 hy_X4_party np_X4_party rfl dX4_nextParty_43) (fun q h he hX => a_out (unc_of Z.2.1 rfl) Z.2.2.2.1 he hX) (fun x43 h hf => ?kk43)
        refine AW.eq (g2 := F0 m 46 ls [.int x43, va_rf x39]) rfl ?_
        refine a_iaload (pc := 46) X dX4_nextParty_46 hf (fun x46 hf => ?_)
        refine a_aload_n (pc := 47) X dX4_nextParty_47 rfl hl 0 rfl ?_
        refine a_get (pc := 48) (φ := 100) pR_t X Z.1.2.1 (gw X.1 X.2.1 q3025) (fun _ q => q) (by decide) dX4_nextParty_48 hf (fun x48 hf => ?_)
        refine a_iload_n (pc := 51) X dX4_nextParty_51 rfl hl 1 rfl ?_
        refine a_callb (pc := 52) (rs := [vR x48, vI x46]) (avs := [vI v1]) Z.1 (w_X4_party GA v1) (Or.inl rfl) q3315 q86 (by decide) (by decide) dX4_nextParty_52 hl.1 (Nat.le_of_ble_eq_true rfl) hf (ct_S X (Or.inl rfl) q3315 q86 q3313 q3314 hy_X4_party np_X4_party rfl dX4_nextParty_52) (fun q h he hX => a_out (unc_of Z.2.1 rfl) Z.2.2.2.1 he hX) (fun x52 h hf => ?kk52)
        refine AW.eq (g2 := F0 m 55 ls [.int x52, va_rf x48, .int x46]) rfl ?_
        refine a_iaload (pc := 55) X dX4_nextParty_55 hf (fun x55 hf => ?_)
        refine AW.lift2 (fun _ _ _ _ k1 k2 => lv_icmp_ge (pc := 56) (tgt := 63) X.2.2.1 X.2.2.2.1 dX4_nextParty_56 rfl k1 k2) (fun c => ?_) (fun c => ?_)
        · have hf := ite_t c hf
          exact w_X4_nextParty_j63 GA Z v0 v1 v2  rc9 hrc9 (hl.sub [0, 1, 2] rfl) hf
        · have hf := ite_f c hf
          exact w_X4_nextParty_j59 GA Z v0 v1 v2  rc9 hrc9 (hl.sub [0, 1, 2] rfl) hf
    · have hf := ite_f c hf
      exact w_X4_nextParty_j63 GA Z v0 v1 v2  rc9 hrc9 (hl.sub [0, 1, 2] rfl) hf
theorem w_X4_nextParty_l9 {r : Except Nat (Int32) × AH} (GA : GA l s0 a0 K lam) (Z : WZ l s0 a0 K p s m c cX4_nextParty yX4_nextParty.cls 4 b R 1 21 meth [] (some (.int)) yX4_nextParty) (v0 : Option Nat)  : ∀ (n : Nat) (v1 : Int32) (v2 : Int32) (h : AH) (ls : Array Slot), LV ls 4 [(0, vR v0), (1, vI v1), (2, vI v2)] → f_X4_nextParty_l9 K v0 n v1 v2 h = some r → AW s0 K lam p l e R s m args below meth c (AQ s0 K lam below oI b r s) b h (F0 m 9 ls []) := by
  intro n
  induction n with
  | zero => intro v1 v2 h ls hl hf; exact fl_no (h := h) hf
  | succ n ih => intro v1 v2 h ls hl hf; exact w_X4_nextParty_b9 GA Z v0 v1 v2 (f_X4_nextParty_l9 K v0 n) ih hl hf
theorem np_X4_nextParty : npar yX4_nextParty.desc 0 := by unfold npar; decide +kernel
theorem hy_X4_nextParty : yX4_nextParty.cls ≠ "java/lang/invoke/MethodHandle" ∧ yX4_nextParty.cls ≠ "java/lang/invoke/VarHandle" := by decide +kernel
theorem w_X4_nextParty (GA : GA l s0 a0 K lam) (v0 : Option Nat) : AMet l s0 K lam yX4_nextParty (Cond.code yX4_nextParty cX4_nextParty (4 : Nat) (Option.some ClassFile.FieldType.int)) 1 21 [vR v0] oI (f_X4_nextParty K v0) := by
  refine AMet.of GA.1 (plainFor_of_name (by decide +kernel)) (Nat.le_of_ble_eq_true rfl) ?_
  intro b r hf p e s m args below meth c X hr hlk hnm hnd ht ls hl
  have Z : WZ l s0 a0 K p s m c cX4_nextParty yX4_nextParty.cls 4 b { frames := 1, cells := K 0 - aX b, slots := K 1 - aW b, locals := 21 } 1 21 meth [] (some (.int)) yX4_nextParty := ⟨⟨X, GA.2.1, GA.2.2.1, rfl, rfl, Nat.le_refl _, Nat.le_refl _⟩, tab_nil ht, hr, hlk, hnm, hnd⟩
  unfold f_X4_nextParty at hf
  clear hr hlk hnm hnd ht
  refine a_aload_n (pc := 0) X dX4_nextParty_0 rfl hl 0 rfl ?_
  refine AW.lift (fun _ _ _ _ k => lv_iconst (pc := 1) (v := (0 : Int32)) X.2.2.1 X.2.2.2.1 dX4_nextParty_1 rfl k) ?_
  refine a_put (pc := 2) (φ := 107) X Z.1.2.1 Z.1.2.2.1 (gw X.1 X.2.1 q3032) (fun _ q => q) (by decide) rfl rfl dX4_nextParty_2 hf (fun h hf => ?_)
  refine AW.lift (fun _ _ _ _ k => lv_iconst (pc := 5) (v := (-1 : Int32)) X.2.2.1 X.2.2.2.1 dX4_nextParty_5 rfl k) ?_
  refine a_istore_n (pc := 6) X dX4_nextParty_6 rfl hl (by decide) (lv' := [(1, vI (-1 : Int32)), (0, vR v0)]) rfl (fun ls hl => ?_)
  refine AW.lift (fun _ _ _ _ k => lv_iconst (pc := 7) (v := (0 : Int32)) X.2.2.1 X.2.2.2.1 dX4_nextParty_7 rfl k) ?_
  refine a_istore_n (pc := 8) X dX4_nextParty_8 rfl hl (by decide) (lv' := [(2, vI (0 : Int32)), (1, vI (-1 : Int32)), (0, vR v0)]) rfl (fun ls hl => ?_)
  exact w_X4_nextParty_l9 GA Z v0  FU (-1 : Int32) (0 : Int32) _ _ (hl.sub [2, 1, 0] rfl) hf
theorem np_X1_pass : npar yX1_pass.desc 1 := by unfold npar; decide +kernel
theorem hy_X1_pass : yX1_pass.cls ≠ "java/lang/invoke/MethodHandle" ∧ yX1_pass.cls ≠ "java/lang/invoke/VarHandle" := by decide +kernel
theorem w_X1_pass (GA : GA l s0 a0 K lam) (v0 : Option Nat) (v1 : Int32) : AMet l s0 K lam yX1_pass (Cond.code yX1_pass cX1_pass (2 : Nat) (Option.some ClassFile.FieldType.int)) 21 3348 [vR v0, vI v1] oI (f_X1_pass K v0 v1) := by
  refine AMet.of GA.1 (plainFor_of_name (by decide +kernel)) (Nat.le_of_ble_eq_true rfl) ?_
  intro b r hf p e s m args below meth c X hr hlk hnm hnd ht ls hl
  have Z : WZ l s0 a0 K p s m c cX1_pass yX1_pass.cls 2 b { frames := 21, cells := K 0 - aX b, slots := K 1 - aW b, locals := 3348 } 21 3348 meth [] (some (.int)) yX1_pass := ⟨⟨X, GA.2.1, GA.2.2.1, rfl, rfl, Nat.le_refl _, Nat.le_refl _⟩, tab_nil ht, hr, hlk, hnm, hnd⟩
  unfold f_X1_pass at hf
  clear hr hlk hnm hnd ht
  refine a_iload_n (pc := 0) X dX1_pass_0 rfl hl 1 rfl ?_
  refine AW.lift (fun _ _ _ _ k => lv_iconst (pc := 1) (v := (1 : Int32)) X.2.2.1 X.2.2.2.1 dX1_pass_1 rfl k) ?_
  refine AW.lift (fun _ _ _ _ k => lv_bipush (pc := 2) (v := (60 : Int32)) X.2.2.1 X.2.2.2.1 dX1_pass_2 rfl k) ?_
  refine a_callb (pc := 4) (rs := []) (avs := [vI v1, vI (1 : Int32), vI (60 : Int32)]) Z.1 (w_X1_isIn GA v1 (1 : Int32) (60 : Int32)) (Or.inl rfl) q1812 q74 (by decide) (by decide) dX1_pass_4 hl.1 (Nat.le_of_ble_eq_true rfl) hf (ct_S X (Or.inl rfl) q1812 q74 q1813 q1811 hy_X1_isIn np_X1_isIn rfl dX1_pass_4) (fun q h he hX => a_out (unc_of Z.2.1 rfl) Z.2.2.2.1 he hX) (fun x4 h hf => ?kk4)
  refine AW.eq (g2 := F0 m 7 ls [.int x4]) rfl ?_
  refine a_callb (pc := 7) (rs := []) (avs := [vI x4]) Z.1 (w_X1_checkArgument GA x4) (Or.inl rfl) q1880 q74 (by decide) (by decide) dX1_pass_7 hl.1 (Nat.le_of_ble_eq_true rfl) hf (ct_S X (Or.inl rfl) q1880 q74 q1878 q1879 hy_X1_checkArgument np_X1_checkArgument rfl dX1_pass_7) (fun q h he hX => a_out (unc_of Z.2.1 rfl) Z.2.2.2.1 he hX) (fun _ h hf => ?kk7)
  refine AW.eq (g2 := F0 m 10 ls []) rfl ?_
  refine a_aload_n (pc := 10) X dX1_pass_10 rfl hl 0 rfl ?_
  refine a_iload_n (pc := 11) X dX1_pass_11 rfl hl 1 rfl ?_
  refine a_ndy (pc := 12) (rs := [vR v0]) (avs := [vI v1]) Z.1 Z.2.2.2.2.2 (siG_220 GA) hfb_20 (lw_all_tbl q3550) ⟨by decide, by decide⟩ rfl rfl rfl (by decide) hl.1 (Nat.le_of_ble_eq_true rfl) (Nat.le_of_ble_eq_true rfl) rfl dX1_pass_12 hf (fun x12 h hf => ?_)
  refine AW.eq (g2 := F0 m 17 ls [va_rf (some x12), va_rf v0]) rfl ?_
  obtain ⟨a17, rfl, ⟨hk, hf⟩ | ⟨-, hf⟩⟩ := dv_some hf
  rotate_left
  · exact fl_none hf
  refine a_callb (pc := 17) (rs := []) (avs := [vR (some a17), vR (some x12)]) Z.1 (w_X1_does GA (some a17) (some x12)) (Or.inr (Or.inl ⟨_, rfl⟩)) q1754 q74 (by decide) (by decide) dX1_pass_17 hl.1 (Nat.le_of_ble_eq_true rfl) hf (ct_V hk ⟨by decide, by decide⟩ X (Or.inr (Or.inl ⟨_, rfl⟩)) q1754 q1751 q1753 pv_4 hy_X1_does np_X1_does rfl dX1_pass_17) (fun q h he hX => a_out (unc_of Z.2.1 rfl) Z.2.2.2.1 he hX) (fun x17 h hf => ?kk17)
  refine AW.eq (g2 := F0 m 20 ls [.int x17]) rfl ?_
  exact a_ireturn X Z.2.2.1 Z.2.2.2.1 dX1_pass_20 hf
theorem np_X0_pass : npar yX0_pass.desc 3 := by unfold npar; decide +kernel
theorem hy_X0_pass : yX0_pass.cls ≠ "java/lang/invoke/MethodHandle" ∧ yX0_pass.cls ≠ "java/lang/invoke/VarHandle" := by decide +kernel
theorem w_X0_pass (GA : GA l s0 a0 K lam) (v0 : Option Nat) (v1 : Int32) (v2 : Option Nat) : AMet l s0 K lam yX0_pass (Cond.codeWith yX0_pass cX0_pass (4 : Nat) (Option.some ClassFile.FieldType.int) [((0 : Nat), (9 : Nat), (12 : Nat), (28 : Nat))]) 22 3369 [vR v0, vI v1, vR v2] oI (f_X0_pass K v0 v1 v2) := by
  refine AMet.ofW GA.1 (plainFor_of_name (by decide +kernel)) (Nat.le_of_ble_eq_true rfl) ?_
  intro b r hf p e s m args below meth c X hr hlk hnm hnd ht ls hl
  have Z : WZ l s0 a0 K p s m c cX0_pass yX0_pass.cls 4 b { frames := 22, cells := K 0 - aX b, slots := K 1 - aW b, locals := 3369 } 22 3369 meth [(0, 9, 12, 28)] (some (.int)) yX0_pass := ⟨⟨X, GA.2.1, GA.2.2.1, rfl, rfl, Nat.le_refl _, Nat.le_refl _⟩, ht, hr, hlk, hnm, hnd⟩
  unfold f_X0_pass at hf
  clear hr hlk hnm hnd ht
  refine a_aload_n (pc := 0) X dX0_pass_0 rfl hl 2 rfl ?_
  refine AW.lift (fun _ _ _ _ k => lv_iconst (pc := 1) (v := (0 : Int32)) X.2.2.1 X.2.2.2.1 dX0_pass_1 rfl k) ?_
  refine a_aload_n (pc := 2) X dX0_pass_2 rfl hl 0 rfl ?_
  refine a_iload_n (pc := 3) X dX0_pass_3 rfl hl 1 rfl ?_
  obtain ⟨a4, rfl, ⟨hk, hf⟩ | ⟨-, hf⟩⟩ := dv_tsome hf
  rotate_left
  · exact fl_tnone hf
  refine a_callt (pc := 4) (rs := [vI (0 : Int32), vR v2]) (avs := [vR (some a4), vI v1]) Z.1 (w_X1_pass GA (some a4) v1) (Or.inl rfl) q2454 q74 (by decide) (by decide) dX0_pass_4 hl.1 (Nat.le_of_ble_eq_true rfl) hf (ct_V hk ⟨by decide, by decide⟩ X (Or.inl rfl) q2454 q2451 q2452 q2453 hy_X1_pass np_X1_pass rfl dX0_pass_4) (fun q h hf hX => ?hx4) (fun x4 h hf => ?kk4)
  case hx4 =>
    rcases ctc_some hf with ⟨hy, hf⟩ | ⟨hn0, hf⟩
    · refine a_catchH (st := 0) (en := 9) (hp := 12) (ct := 28) (pre := []) (suf := []) X hX Z.2.1 rfl (fun z hz => nomatch hz) (by decide) (Or.inr ⟨by decide, _, gw X.1 X.2.1 q1873, (cs_X17 GA) _ hy⟩) (AW.eq (g2 := F0 m 12 ls [va_rf (some q)]) rfl ?_)
      refine a_astore_n (pc := 12) X dX0_pass_12 rfl hl (by decide) (lv' := [(3, vR (some q)), (0, vR (some a4)), (1, vI v1), (2, vR v2)]) rfl (fun ls hl => ?_)
      refine AW.lift (fun _ _ _ _ k => lv_iconst (pc := 13) (v := (1 : Int32)) X.2.2.1 X.2.2.2.1 dX0_pass_13 rfl k) ?_
      exact a_ireturn X Z.2.2.1 Z.2.2.2.1 dX0_pass_14 hf
    · skip
      exact a_outH X Z.2.1 (by intro z hz; simp only [List.mem_cons, List.not_mem_nil, or_false] at hz; rcases hz with rfl <;> first | exact Or.inl (by decide) | exact Or.inr ⟨by decide, _, gw X.1 X.2.1 q1873, (nc_12_13_14_16_18_19_20_21_java_lang_IllegalArgumentException GA _ (by simpa using hn0)).2.2⟩) Z.2.2.2.1 (th_eq hf) hX
  refine AW.eq (g2 := F0 m 7 ls [.int x4, .int (0 : Int32), va_rf v2]) rfl ?_
  refine AW.lift (fun _ _ _ _ k => lv_i2l (pc := 7) X.2.2.1 X.2.2.2.1 dX0_pass_7 rfl k) ?_
  refine a_lastore (pc := 8) X dX0_pass_8 hf (fun h hf => ?_)
  refine AW.lift (fun _ _ _ _ k => lv_goto (pc := 9) (tgt := 15) X.2.2.1 X.2.2.2.1 dX0_pass_9 rfl k) ?_
  refine AW.lift (fun _ _ _ _ k => lv_iconst (pc := 15) (v := (0 : Int32)) X.2.2.1 X.2.2.2.1 dX0_pass_15 rfl k) ?_
  exact a_ireturn X Z.2.2.1 Z.2.2.2.1 dX0_pass_16 hf
theorem w_X4_passIt_b22 {r : Except Nat (Int32) × AH} (GA : GA l s0 a0 K lam) (Z : WZ l s0 a0 K p s m c cX4_passIt yX4_passIt.cls 4 b R 5 111 meth [] (some (.int)) yX4_passIt) (v0 : Option Nat) (v1 : Int32) (v2 : Int32) (v3 : Int32)  (rc22 : Int32 → Int32 → AM (Int32)) (hrc22 : ∀ (v2 : Int32) (v3 : Int32) (h : AH) (ls : Array Slot), LV ls 4 [(0, vR v0), (1, vI v1), (2, vI v2), (3, vI v3)] → rc22 v2 v3 h = some r → AW s0 K lam p l e R s m args below meth c (AQ s0 K lam below oI b r s) b h (F0 m 22 ls [])) {h : AH} {ls : Array Slot} (hl : LV ls 4 [(0, vR v0), (1, vI v1), (2, vI v2), (3, vI v3)]) (hf : f_X4_passIt_b22 K rc22 v0 v1 v2 v3 h = some r) : AW s0 K lam p l e R s m args below meth c (AQ s0 K lam below oI b r s) b h (F0 m 22 ls []) := by
  unfold f_X4_passIt_b22 at hf
  have X := Z.1.1
  refine a_iload_n (pc := 22) X dX4_passIt_22 rfl hl 3 rfl ?_
  refine a_iload_n (pc := 23) X dX4_passIt_23 rfl hl 1 rfl ?_
  refine AW.lift2 (fun _ _ _ _ k1 k2 => lv_icmp_ge (pc := 24) (tgt := 40) X.2.2.1 X.2.2.2.1 dX4_passIt_24 rfl k1 k2) (fun c => ?_) (fun c => ?_)
  · have hf := ite_t c hf
    refine a_iload_n (pc := 40) X dX4_passIt_40 rfl hl 2 rfl ?_
    exact a_ireturn X Z.2.2.1 Z.2.2.2.1 dX4_passIt_41 hf
  · have hf := ite_f c hf
    refine a_iload_n (pc := 27) X dX4_passIt_27 rfl hl 2 rfl ?_
    refine a_aload_n (pc := 28) X dX4_passIt_28 rfl hl 0 rfl ?_
    obtain ⟨a29, rfl, ⟨hk, hf⟩ | ⟨-, hf⟩⟩ := dv_some hf
    rotate_left
    · exact fl_none hf
    refine a_callb (pc := 29) (rs := [vI v2]) (avs := [vR (some a29)]) Z.1 (w_X4_minuteGoes GA (some a29)) (Or.inl rfl) q3345 q86 (by decide) (by decide) dX4_passIt_29 hl.1 (Nat.le_of_ble_eq_true rfl) hf (ct_V hk ⟨by decide, by decide⟩ X (Or.inl rfl) q3345 q3342 q3344 pv_56 hy_X4_minuteGoes np_X4_minuteGoes rfl dX4_passIt_29) (fun q h he hX => a_out (unc_of Z.2.1 rfl) Z.2.2.2.1 he hX) (fun x29 h hf => ?kk29)
    refine AW.eq (g2 := F0 m 32 ls [.int x29, .int v2]) rfl ?_
    refine AW.lift (fun _ _ _ _ k => lv_iadd (pc := 32) X.2.2.1 X.2.2.2.1 dX4_passIt_32 k) ?_
    refine a_istore_n (pc := 33) X dX4_passIt_33 rfl hl (by decide) (lv' := [(2, vI (v2 + x29)), (0, vR (some a29)), (1, vI v1), (3, vI v3)]) rfl (fun ls hl => ?_)
    refine a_iinc (pc := 34) (v := (v3 + (1 : Int32))) X dX4_passIt_34 hl (k := 3) rfl rfl (by decide) (lv' := [(3, vI (v3 + (1 : Int32))), (2, vI (v2 + x29)), (0, vR (some a29)), (1, vI v1)]) rfl (fun ls hl => ?_)
    refine AW.lift (fun _ _ _ _ k => lv_goto (pc := 37) (tgt := 22) X.2.2.1 X.2.2.2.1 dX4_passIt_37 rfl k) ?_
    exact hrc22 (v2 + x29) (v3 + (1 : Int32)) _ _ (hl.sub [2, 3, 1, 0] rfl) hf
theorem w_X4_passIt_l22 {r : Except Nat (Int32) × AH} (GA : GA l s0 a0 K lam) (Z : WZ l s0 a0 K p s m c cX4_passIt yX4_passIt.cls 4 b R 5 111 meth [] (some (.int)) yX4_passIt) (v0 : Option Nat) (v1 : Int32)  : ∀ (n : Nat) (v2 : Int32) (v3 : Int32) (h : AH) (ls : Array Slot), LV ls 4 [(0, vR v0), (1, vI v1), (2, vI v2), (3, vI v3)] → f_X4_passIt_l22 K v0 v1 n v2 v3 h = some r → AW s0 K lam p l e R s m args below meth c (AQ s0 K lam below oI b r s) b h (F0 m 22 ls []) := by
  intro n
  induction n with
  | zero => intro v2 v3 h ls hl hf; exact fl_no (h := h) hf
  | succ n ih => intro v2 v3 h ls hl hf; exact w_X4_passIt_b22 GA Z v0 v1 v2 v3 (f_X4_passIt_l22 K v0 v1 n) ih hl hf
theorem np_X4_passIt : npar yX4_passIt.desc 1 := by unfold npar; decide +kernel
theorem hy_X4_passIt : yX4_passIt.cls ≠ "java/lang/invoke/MethodHandle" ∧ yX4_passIt.cls ≠ "java/lang/invoke/VarHandle" := by decide +kernel
theorem w_X4_passIt (GA : GA l s0 a0 K lam) (v0 : Option Nat) (v1 : Int32) : AMet l s0 K lam yX4_passIt (Cond.code yX4_passIt cX4_passIt (4 : Nat) (Option.some ClassFile.FieldType.int)) 5 111 [vR v0, vI v1] oI (f_X4_passIt K v0 v1) := by
  refine AMet.of GA.1 (plainFor_of_name (by decide +kernel)) (Nat.le_of_ble_eq_true rfl) ?_
  intro b r hf p e s m args below meth c X hr hlk hnm hnd ht ls hl
  have Z : WZ l s0 a0 K p s m c cX4_passIt yX4_passIt.cls 4 b { frames := 5, cells := K 0 - aX b, slots := K 1 - aW b, locals := 111 } 5 111 meth [] (some (.int)) yX4_passIt := ⟨⟨X, GA.2.1, GA.2.2.1, rfl, rfl, Nat.le_refl _, Nat.le_refl _⟩, tab_nil ht, hr, hlk, hnm, hnd⟩
  unfold f_X4_passIt at hf
  clear hr hlk hnm hnd ht
  refine a_iload_n (pc := 0) X dX4_passIt_0 rfl hl 1 rfl ?_
  refine AW.lift (fun _ _ _ _ k => lv_i2l (pc := 1) X.2.2.1 X.2.2.2.1 dX4_passIt_1 rfl k) ?_
  refine AW.lift (fun _ _ _ _ k => lv_lconst (pc := 2) (v := (1 : Int64)) X.2.2.1 X.2.2.2.1 dX4_passIt_2 rfl k) ?_
  refine AW.lift (fun _ _ _ _ k => lv_ldc2 (pc := 3) X.2.2.1 X.2.2.2.1 X.2.2.2.2.1 (gw X.1 X.2.1 q3341) dX4_passIt_3 k) ?_
  refine a_callb (pc := 6) (rs := []) (avs := [vJ (v1.toInt64), vJ (1 : Int64), vJ (60 : Int64)]) Z.1 (w_X4_in GA (v1.toInt64) (1 : Int64) (60 : Int64)) (Or.inl rfl) q3142 q86 (by decide) (by decide) dX4_passIt_6 hl.1 (Nat.le_of_ble_eq_true rfl) hf (ct_S X (Or.inl rfl) q3142 q86 q3140 q3141 hy_X4_in np_X4_in rfl dX4_passIt_6) (fun q h he hX => a_out (unc_of Z.2.1 rfl) Z.2.2.2.1 he hX) (fun x6 h hf => ?kk6)
  refine AW.eq (g2 := F0 m 9 ls [.int x6]) rfl ?_
  refine AW.lift2 (fun _ _ _ _ k1 k2 => lv_if_ne (pc := 9) (tgt := 18) X.2.2.1 X.2.2.2.1 dX4_passIt_9 rfl k2 k1) (fun c => ?_) (fun c => ?_)
  · have hf := ite_t c hf
    refine a_aload_n (pc := 12) X dX4_passIt_12 rfl hl 0 rfl ?_
    refine AW.lift (fun _ _ _ _ k => lv_iconst (pc := 13) (v := (1 : Int32)) X.2.2.1 X.2.2.2.1 dX4_passIt_13 rfl k) ?_
    obtain ⟨a14, rfl, ⟨hk, hf⟩ | ⟨-, hf⟩⟩ := dv_some hf
    rotate_left
    · exact fl_none hf
    refine a_callb (pc := 14) (rs := []) (avs := [vR (some a14), vI (1 : Int32)]) Z.1 (w_X4_throwing GA (some a14) (1 : Int32)) (Or.inl rfl) q3120 q86 (by decide) (by decide) dX4_passIt_14 hl.1 (Nat.le_of_ble_eq_true rfl) hf (ct_V hk ⟨by decide, by decide⟩ X (Or.inl rfl) q3120 q3117 q3119 pv_30 hy_X4_throwing np_X4_throwing rfl dX4_passIt_14) (fun q h he hX => a_out (unc_of Z.2.1 rfl) Z.2.2.2.1 he hX) (fun x14 h hf => ?kk14)
    refine AW.eq (g2 := F0 m 17 ls [.int x14]) rfl ?_
    exact a_ireturn X Z.2.2.1 Z.2.2.2.1 dX4_passIt_17 hf
  · have hf := ite_f c hf
    refine AW.lift (fun _ _ _ _ k => lv_iconst (pc := 18) (v := (0 : Int32)) X.2.2.1 X.2.2.2.1 dX4_passIt_18 rfl k) ?_
    refine a_istore_n (pc := 19) X dX4_passIt_19 rfl hl (by decide) (lv' := [(2, vI (0 : Int32)), (0, vR v0), (1, vI v1)]) rfl (fun ls hl => ?_)
    refine AW.lift (fun _ _ _ _ k => lv_iconst (pc := 20) (v := (0 : Int32)) X.2.2.1 X.2.2.2.1 dX4_passIt_20 rfl k) ?_
    refine a_istore_n (pc := 21) X dX4_passIt_21 rfl hl (by decide) (lv' := [(3, vI (0 : Int32)), (2, vI (0 : Int32)), (0, vR v0), (1, vI v1)]) rfl (fun ls hl => ?_)
    exact w_X4_passIt_l22 GA Z v0 v1  FU (0 : Int32) (0 : Int32) _ _ (hl.sub [2, 3, 1, 0] rfl) hf
theorem np_X4_pass : npar yX4_pass.desc 1 := by unfold npar; decide +kernel
theorem hy_X4_pass : yX4_pass.cls ≠ "java/lang/invoke/MethodHandle" ∧ yX4_pass.cls ≠ "java/lang/invoke/VarHandle" := by decide +kernel
theorem w_X4_pass (GA : GA l s0 a0 K lam) (v0 : Option Nat) (v1 : Int32) : AMet l s0 K lam yX4_pass (Cond.code yX4_pass cX4_pass (2 : Nat) (Option.some ClassFile.FieldType.int)) 6 134 [vR v0, vI v1] oI (f_X4_pass K v0 v1) := by
  refine AMet.of GA.1 (plainFor_of_name (by decide +kernel)) (Nat.le_of_ble_eq_true rfl) ?_
  intro b r hf p e s m args below meth c X hr hlk hnm hnd ht ls hl
  have Z : WZ l s0 a0 K p s m c cX4_pass yX4_pass.cls 2 b { frames := 6, cells := K 0 - aX b, slots := K 1 - aW b, locals := 134 } 6 134 meth [] (some (.int)) yX4_pass := ⟨⟨X, GA.2.1, GA.2.2.1, rfl, rfl, Nat.le_refl _, Nat.le_refl _⟩, tab_nil ht, hr, hlk, hnm, hnd⟩
  unfold f_X4_pass at hf
  clear hr hlk hnm hnd ht
  refine a_aload_n (pc := 0) X dX4_pass_0 rfl hl 0 rfl ?_
  obtain ⟨a1, rfl, ⟨hk, hf⟩ | ⟨-, hf⟩⟩ := dv_some hf
  rotate_left
  · exact fl_none hf
  refine a_callb (pc := 1) (rs := []) (avs := [vR (some a1)]) Z.1 (w_X4_layAside GA (some a1)) (Or.inl rfl) q3112 q86 (by decide) (by decide) dX4_pass_1 hl.1 (Nat.le_of_ble_eq_true rfl) hf (ct_V hk ⟨by decide, by decide⟩ X (Or.inl rfl) q3112 q3109 q3111 pv_28 hy_X4_layAside np_X4_layAside rfl dX4_pass_1) (fun q h he hX => a_out (unc_of Z.2.1 rfl) Z.2.2.2.1 he hX) (fun _ h hf => ?kk1)
  refine AW.eq (g2 := F0 m 4 ls []) rfl ?_
  refine a_aload_n (pc := 4) X dX4_pass_4 rfl hl 0 rfl ?_
  refine a_aload_n (pc := 5) X dX4_pass_5 rfl hl 0 rfl ?_
  refine a_iload_n (pc := 6) X dX4_pass_6 rfl hl 1 rfl ?_
  rcases dv_someS hf with ⟨hk, hf⟩ | ⟨-, hf⟩
  rotate_left
  · exact fl_none hf
  refine a_callb (pc := 7) (rs := [vR (some a1)]) (avs := [vR (some a1), vI v1]) Z.1 (w_X4_passIt GA (some a1) v1) (Or.inl rfl) q3340 q86 (by decide) (by decide) dX4_pass_7 hl.1 (Nat.le_of_ble_eq_true rfl) hf (ct_V hk ⟨by decide, by decide⟩ X (Or.inl rfl) q3340 q3337 q3339 pv_55 hy_X4_passIt np_X4_passIt rfl dX4_pass_7) (fun q h he hX => a_out (unc_of Z.2.1 rfl) Z.2.2.2.1 he hX) (fun x7 h hf => ?kk7)
  refine AW.eq (g2 := F0 m 10 ls [.int x7, va_rf (some a1)]) rfl ?_
  rcases dv_someS hf with ⟨hk, hf⟩ | ⟨-, hf⟩
  rotate_left
  · exact fl_none hf
  refine a_callb (pc := 10) (rs := []) (avs := [vR (some a1), vI x7]) Z.1 (w_X4_changed GA (some a1) x7) (Or.inl rfl) q3127 q86 (by decide) (by decide) dX4_pass_10 hl.1 (Nat.le_of_ble_eq_true rfl) hf (ct_V hk ⟨by decide, by decide⟩ X (Or.inl rfl) q3127 q3124 q3126 pv_31 hy_X4_changed np_X4_changed rfl dX4_pass_10) (fun q h he hX => a_out (unc_of Z.2.1 rfl) Z.2.2.2.1 he hX) (fun x10 h hf => ?kk10)
  refine AW.eq (g2 := F0 m 13 ls [.int x10]) rfl ?_
  exact a_ireturn X Z.2.2.1 Z.2.2.2.1 dX4_pass_13 hf
theorem np_J5_newCapacity : npar yJ5_newCapacity.desc 1 := by unfold npar; decide +kernel
theorem hy_J5_newCapacity : yJ5_newCapacity.cls ≠ "java/lang/invoke/MethodHandle" ∧ yJ5_newCapacity.cls ≠ "java/lang/invoke/VarHandle" := by decide +kernel
theorem w_J5_newCapacity (GA : GA l s0 a0 K lam) (v0 : Option Nat) (v1 : Int32) : AMet l s0 K lam yJ5_newCapacity (Cond.code yJ5_newCapacity cJ5_newCapacity (6 : Nat) (Option.some ClassFile.FieldType.int)) 2 52 [vR v0, vI v1] oI (f_J5_newCapacity K v0 v1) := by
  refine AMet.of GA.1 (plainFor_of_name (by decide +kernel)) (Nat.le_of_ble_eq_true rfl) ?_
  intro b r hf p e s m args below meth c X hr hlk hnm hnd ht ls hl
  have Z : WZ l s0 a0 K p s m c cJ5_newCapacity yJ5_newCapacity.cls 6 b { frames := 2, cells := K 0 - aX b, slots := K 1 - aW b, locals := 52 } 2 52 meth [] (some (.int)) yJ5_newCapacity := ⟨⟨X, GA.2.1, GA.2.2.1, rfl, rfl, Nat.le_refl _, Nat.le_refl _⟩, tab_nil ht, hr, hlk, hnm, hnd⟩
  unfold f_J5_newCapacity at hf
  clear hr hlk hnm hnd ht
  refine a_aload_n (pc := 0) X dJ5_newCapacity_0 rfl hl 0 rfl ?_
  refine a_get (pc := 1) (φ := 3500) pR_t X Z.1.2.1 (gw X.1 X.2.1 q293) (fun _ q => q) (by decide) dJ5_newCapacity_1 hf (fun x1 hf => ?_)
  refine a_arraylength (pc := 4) X dJ5_newCapacity_4 hf (fun x4 hf => ?_)
  refine a_istore_n (pc := 5) X dJ5_newCapacity_5 rfl hl (by decide) (lv' := [(2, vI x4), (0, vR v0), (1, vI v1)]) rfl (fun ls hl => ?_)
  refine a_iload_n (pc := 6) X dJ5_newCapacity_6 rfl hl 2 rfl ?_
  refine a_aload_n (pc := 7) X dJ5_newCapacity_7 rfl hl 1 rfl ?_
  refine a_get (pc := 8) (φ := 3501) pI_t X Z.1.2.1 (gw X.1 X.2.1 q294) (fun _ q => q) (by decide) dJ5_newCapacity_8 hf (fun x8 hf => ?_)
  refine AW.lift (fun _ _ _ _ k => lv_ishl (pc := 11) X.2.2.1 X.2.2.2.1 dJ5_newCapacity_11 k) ?_
  refine a_istore_n (pc := 12) X dJ5_newCapacity_12 rfl hl (by decide) (lv' := [(3, vI (v1 <<< (x8 &&& 31))), (2, vI x4), (0, vR v0), (1, vI v1)]) rfl (fun ls hl => ?_)
  refine a_iload_n (pc := 13) X dJ5_newCapacity_13 rfl hl 0 rfl ?_
  refine a_iload_n (pc := 14) X dJ5_newCapacity_14 rfl hl 1 rfl ?_
  refine AW.lift (fun _ _ _ _ k => lv_isub (pc := 15) X.2.2.1 X.2.2.2.1 dJ5_newCapacity_15 k) ?_
  refine a_istore (pc := 16) X dJ5_newCapacity_16 hl (by decide) (lv' := [(4, vI ((v1 <<< (x8 &&& 31)) - x4)), (3, vI (v1 <<< (x8 &&& 31))), (2, vI x4), (0, vR v0), (1, vI v1)]) rfl (fun ls hl => ?_)
  refine a_iload_n (pc := 18) X dJ5_newCapacity_18 rfl hl 2 rfl ?_
  refine a_iload (pc := 19) X dJ5_newCapacity_19 hl 0 rfl ?_
  refine a_iload_n (pc := 21) X dJ5_newCapacity_21 rfl hl 2 rfl ?_
  refine AW.lift (fun _ _ _ _ k => lv_iconst (pc := 22) (v := (2 : Int32)) X.2.2.1 X.2.2.2.1 dJ5_newCapacity_22 rfl k) ?_
  refine a_aload_n (pc := 23) X dJ5_newCapacity_23 rfl hl 3 rfl ?_
  refine a_get (pc := 24) (φ := 3501) pI_t X Z.1.2.1 (gw X.1 X.2.1 q294) (fun _ q => q) (by decide) dJ5_newCapacity_24 hf (fun x24 hf => ?_)
  refine AW.lift (fun _ _ _ _ k => lv_ishl (pc := 27) X.2.2.1 X.2.2.2.1 dJ5_newCapacity_27 k) ?_
  refine AW.lift (fun _ _ _ _ k => lv_iadd (pc := 28) X.2.2.1 X.2.2.2.1 dJ5_newCapacity_28 k) ?_
  refine a_callb (pc := 29) (rs := []) (avs := [vI x4, vI ((v1 <<< (x8 &&& 31)) - x4), vI (x4 + ((2 : Int32) <<< (x24 &&& 31)))]) Z.1 (w_J11_newLength GA x4 ((v1 <<< (x8 &&& 31)) - x4) (x4 + ((2 : Int32) <<< (x24 &&& 31)))) (Or.inl rfl) q563 q92 (by decide) (by decide) dJ5_newCapacity_29 hl.1 (Nat.le_of_ble_eq_true rfl) hf (ct_S X (Or.inl rfl) q563 q92 q561 q562 hy_J11_newLength np_J11_newLength rfl dJ5_newCapacity_29) (fun q h he hX => a_out (unc_of Z.2.1 rfl) Z.2.2.2.1 he hX) (fun x29 h hf => ?kk29)
  refine AW.eq (g2 := F0 m 32 ls [.int x29]) rfl ?_
  refine a_istore (pc := 32) X dJ5_newCapacity_32 hl (by decide) (lv' := [(5, vI x29), (4, vI ((v1 <<< (x8 &&& 31)) - x4)), (3, vI (v1 <<< (x8 &&& 31))), (2, vI x4), (0, vR v0), (1, vI v1)]) rfl (fun ls hl => ?_)
  refine a_iload (pc := 34) X dJ5_newCapacity_34 hl 0 rfl ?_
  refine AW.lift (fun _ _ _ _ k => lv_ldc (pc := 36) X.2.2.1 X.2.2.2.1 X.2.2.2.2.1 (gw X.1 X.2.1 q571) dJ5_newCapacity_36 k) ?_
  refine AW.lift2 (fun _ _ _ _ k1 k2 => lv_icmp_ne (pc := 38) (tgt := 51) X.2.2.1 X.2.2.2.1 dJ5_newCapacity_38 rfl k2 k1) (fun c => ?_) (fun c => ?_)
  · have hf := ite_t c hf
    exact fl_no hf
  · have hf := ite_f c hf
    refine a_iload (pc := 51) X dJ5_newCapacity_51 hl 0 rfl ?_
    refine a_aload_n (pc := 53) X dJ5_newCapacity_53 rfl hl 4 rfl ?_
    refine a_get (pc := 54) (φ := 3501) pI_t X Z.1.2.1 (gw X.1 X.2.1 q294) (fun _ q => q) (by decide) dJ5_newCapacity_54 hf (fun x54 hf => ?_)
    refine AW.lift (fun _ _ _ _ k => lv_ishr (pc := 57) X.2.2.1 X.2.2.2.1 dJ5_newCapacity_57 k) ?_
    exact a_ireturn X Z.2.2.1 Z.2.2.2.1 dJ5_newCapacity_58 hf
theorem np_J13_copyOf : npar yJ13_copyOf.desc 2 := by unfold npar; decide +kernel
theorem hy_J13_copyOf : yJ13_copyOf.cls ≠ "java/lang/invoke/MethodHandle" ∧ yJ13_copyOf.cls ≠ "java/lang/invoke/VarHandle" := by decide +kernel
theorem w_J13_copyOf (GA : GA l s0 a0 K lam) (v0 : Option Nat) (v1 : Int32) : AMet l s0 K lam yJ13_copyOf (Cond.code yJ13_copyOf cJ13_copyOf (3 : Nat) (Option.some (ClassFile.FieldType.array ClassFile.FieldType.byte))) 1 48 [vR v0, vI v1] oR (f_J13_copyOf K v0 v1) := by
  refine AMet.of GA.1 (plainFor_of_name (by decide +kernel)) (Nat.le_of_ble_eq_true rfl) ?_
  intro b r hf p e s m args below meth c X hr hlk hnm hnd ht ls hl
  have Z : WZ l s0 a0 K p s m c cJ13_copyOf yJ13_copyOf.cls 3 b { frames := 1, cells := K 0 - aX b, slots := K 1 - aW b, locals := 48 } 1 48 meth [] (some (.array (.byte))) yJ13_copyOf := ⟨⟨X, GA.2.1, GA.2.2.1, rfl, rfl, Nat.le_refl _, Nat.le_refl _⟩, tab_nil ht, hr, hlk, hnm, hnd⟩
  unfold f_J13_copyOf at hf
  clear hr hlk hnm hnd ht
  refine a_iload_n (pc := 0) X dJ13_copyOf_0 rfl hl 1 rfl ?_
  refine a_aload_n (pc := 1) X dJ13_copyOf_1 rfl hl 0 rfl ?_
  refine a_arraylength (pc := 2) X dJ13_copyOf_2 hf (fun x2 hf => ?_)
  refine AW.lift2 (fun _ _ _ _ k1 k2 => lv_icmp_ne (pc := 3) (tgt := 14) X.2.2.1 X.2.2.2.1 dJ13_copyOf_3 rfl k2 k1) (fun c => ?_) (fun c => ?_)
  · have hf := ite_t c hf
    refine a_aload_n (pc := 6) X dJ13_copyOf_6 rfl hl 0 rfl ?_
    exact fl_no hf
  · have hf := ite_f c hf
    refine a_iload_n (pc := 14) X dJ13_copyOf_14 rfl hl 1 rfl ?_
    refine a_newarray (pc := 15) (t := 1003) (atype := .byte) (by decide) rfl rfl rfl (by decide) (ra_byte GA) X Z.1.2.2.2.1 Z.1.2.2.2.2.1 (gw X.1 X.2.1 q308) dJ13_copyOf_15 hf (fun x15 h hf => ?_)
    refine a_astore_n (pc := 17) X dJ13_copyOf_17 rfl hl (by decide) (lv' := [(2, vR (some x15)), (0, vR v0), (1, vI v1)]) rfl (fun ls hl => ?_)
    refine a_aload_n (pc := 18) X dJ13_copyOf_18 rfl hl 1 rfl ?_
    refine AW.lift (fun _ _ _ _ k => lv_iconst (pc := 19) (v := (0 : Int32)) X.2.2.1 X.2.2.2.1 dJ13_copyOf_19 rfl k) ?_
    refine a_aload_n (pc := 20) X dJ13_copyOf_20 rfl hl 0 rfl ?_
    refine AW.lift (fun _ _ _ _ k => lv_iconst (pc := 21) (v := (0 : Int32)) X.2.2.1 X.2.2.2.1 dJ13_copyOf_21 rfl k) ?_
    refine a_aload_n (pc := 22) X dJ13_copyOf_22 rfl hl 1 rfl ?_
    refine a_arraylength (pc := 23) X dJ13_copyOf_23 hf (fun x23 hf => ?_)
    refine a_iload_n (pc := 24) X dJ13_copyOf_24 rfl hl 2 rfl ?_
    refine AW.lift_c Z.1 (fun _ _ _ _ hc hs k => va_mmin (pc := 25) X.2.2.1 X.2.2.2.1 (X.2.2.2.2.2.trans hl.1.symm) X.2.2.2.2.1 (gw X.1 X.2.1 q582) (gw X.1 X.2.1 q583) (gw X.1 X.2.1 q93) (gw X.1 X.2.1 q584) (Nat.le_trans (by decide) Z.1.2.2.2.2.2.1) (cat_le (rs := [vI (0 : Int32), vR (some x15), vI (0 : Int32), vR v0]) (Nat.le_of_ble_eq_true rfl) Z.1.2.2.2.2.2.2) hc hs dJ13_copyOf_25 k) ?_
    refine AW.eq (g2 := F0 m 28 ls [.int (if v1 < x23 then v1 else x23), .int (0 : Int32), va_rf (some x15), .int (0 : Int32), va_rf v0]) rfl ?_
    refine a_acp (pc := 28) (rs := []) Z.1 q585 q587 q586 q95 (by decide) (by decide) hl.1 (Nat.le_of_ble_eq_true rfl) (by decide) dJ13_copyOf_28 hf (fun h hf => ?_)
    refine AW.eq (g2 := F0 m 31 ls []) rfl ?_
    refine a_aload_n (pc := 31) X dJ13_copyOf_31 rfl hl 0 rfl ?_
    exact a_areturn X Z.2.2.1 (Or.inr ⟨_, rfl⟩) Z.2.2.2.1 dJ13_copyOf_32 hf
theorem np_J5_ensureCapacityInternal : npar yJ5_ensureCapacityInternal.desc 1 := by unfold npar; decide +kernel
theorem hy_J5_ensureCapacityInternal : yJ5_ensureCapacityInternal.cls ≠ "java/lang/invoke/MethodHandle" ∧ yJ5_ensureCapacityInternal.cls ≠ "java/lang/invoke/VarHandle" := by decide +kernel
theorem w_J5_ensureCapacityInternal (GA : GA l s0 a0 K lam) (v0 : Option Nat) (v1 : Int32) : AMet l s0 K lam yJ5_ensureCapacityInternal (Cond.code yJ5_ensureCapacityInternal cJ5_ensureCapacityInternal (3 : Nat) (Option.none : Option ClassFile.FieldType)) 3 77 [vR v0, vI v1] oV (f_J5_ensureCapacityInternal K v0 v1) := by
  refine AMet.of GA.1 (plainFor_of_name (by decide +kernel)) (Nat.le_of_ble_eq_true rfl) ?_
  intro b r hf p e s m args below meth c X hr hlk hnm hnd ht ls hl
  have Z : WZ l s0 a0 K p s m c cJ5_ensureCapacityInternal yJ5_ensureCapacityInternal.cls 3 b { frames := 3, cells := K 0 - aX b, slots := K 1 - aW b, locals := 77 } 3 77 meth [] none yJ5_ensureCapacityInternal := ⟨⟨X, GA.2.1, GA.2.2.1, rfl, rfl, Nat.le_refl _, Nat.le_refl _⟩, tab_nil ht, hr, hlk, hnm, hnd⟩
  unfold f_J5_ensureCapacityInternal at hf
  clear hr hlk hnm hnd ht
  refine a_aload_n (pc := 0) X dJ5_ensureCapacityInternal_0 rfl hl 0 rfl ?_
  refine a_get (pc := 1) (φ := 3500) pR_t X Z.1.2.1 (gw X.1 X.2.1 q293) (fun _ q => q) (by decide) dJ5_ensureCapacityInternal_1 hf (fun x1 hf => ?_)
  refine a_arraylength (pc := 4) X dJ5_ensureCapacityInternal_4 hf (fun x4 hf => ?_)
  refine a_aload_n (pc := 5) X dJ5_ensureCapacityInternal_5 rfl hl 0 rfl ?_
  refine a_get (pc := 6) (φ := 3501) pI_t X Z.1.2.1 (gw X.1 X.2.1 q294) (fun _ q => q) (by decide) dJ5_ensureCapacityInternal_6 hf (fun x6 hf => ?_)
  refine AW.lift (fun _ _ _ _ k => lv_ishr (pc := 9) X.2.2.1 X.2.2.2.1 dJ5_ensureCapacityInternal_9 k) ?_
  refine a_istore_n (pc := 10) X dJ5_ensureCapacityInternal_10 rfl hl (by decide) (lv' := [(2, vI (x4 >>> (x6 &&& 31))), (0, vR v0), (1, vI v1)]) rfl (fun ls hl => ?_)
  refine a_iload_n (pc := 11) X dJ5_ensureCapacityInternal_11 rfl hl 2 rfl ?_
  refine a_iload_n (pc := 12) X dJ5_ensureCapacityInternal_12 rfl hl 0 rfl ?_
  refine AW.lift (fun _ _ _ _ k => lv_isub (pc := 13) X.2.2.1 X.2.2.2.1 dJ5_ensureCapacityInternal_13 k) ?_
  refine AW.lift2 (fun _ _ _ _ k1 k2 => lv_if_le (pc := 14) (tgt := 38) X.2.2.1 X.2.2.2.1 dJ5_ensureCapacityInternal_14 rfl k1 k2) (fun c => ?_) (fun c => ?_)
  · have hf := ite_t c hf
    exact a_return X Z.2.2.1 Z.2.2.2.1 dJ5_ensureCapacityInternal_38 hf
  · have hf := ite_f c hf
    refine a_aload_n (pc := 17) X dJ5_ensureCapacityInternal_17 rfl hl 1 rfl ?_
    refine a_aload_n (pc := 18) X dJ5_ensureCapacityInternal_18 rfl hl 1 rfl ?_
    refine a_get (pc := 19) (φ := 3500) pR_t X Z.1.2.1 (gw X.1 X.2.1 q293) (fun _ q => q) (by decide) dJ5_ensureCapacityInternal_19 hf (fun x19 hf => ?_)
    refine a_aload_n (pc := 22) X dJ5_ensureCapacityInternal_22 rfl hl 1 rfl ?_
    refine a_iload_n (pc := 23) X dJ5_ensureCapacityInternal_23 rfl hl 2 rfl ?_
    obtain ⟨a24, rfl, ⟨hk, hf⟩ | ⟨-, hf⟩⟩ := dv_some hf
    rotate_left
    · exact fl_none hf
    refine a_callb (pc := 24) (rs := [vR x19, vR (some a24)]) (avs := [vR (some a24), vI v1]) Z.1 (w_J5_newCapacity GA (some a24) v1) (Or.inl rfl) q560 q82 (by decide) (by decide) dJ5_ensureCapacityInternal_24 hl.1 (Nat.le_of_ble_eq_true rfl) hf (ct_Vp hk ⟨by decide, by decide⟩ X (Or.inl rfl) q560 q557 q559 q558 q591 rfl hy_J5_newCapacity np_J5_newCapacity rfl dJ5_ensureCapacityInternal_24) (fun q h he hX => a_out (unc_of Z.2.1 rfl) Z.2.2.2.1 he hX) (fun x24 h hf => ?kk24)
    refine AW.eq (g2 := F0 m 27 ls [.int x24, va_rf x19, va_rf (some a24)]) rfl ?_
    refine a_aload_n (pc := 27) X dJ5_ensureCapacityInternal_27 rfl hl 1 rfl ?_
    refine a_get (pc := 28) (φ := 3501) pI_t X Z.1.2.1 (gw X.1 X.2.1 q294) (fun _ q => q) (by decide) dJ5_ensureCapacityInternal_28 hf (fun x28 hf => ?_)
    refine AW.lift (fun _ _ _ _ k => lv_ishl (pc := 31) X.2.2.1 X.2.2.2.1 dJ5_ensureCapacityInternal_31 k) ?_
    refine a_callb (pc := 32) (rs := [vR (some a24)]) (avs := [vR x19, vI (x24 <<< (x28 &&& 31))]) Z.1 (w_J13_copyOf GA x19 (x24 <<< (x28 &&& 31))) (Or.inl rfl) q574 q94 (by decide) (by decide) dJ5_ensureCapacityInternal_32 hl.1 (Nat.le_of_ble_eq_true rfl) hf (ct_S X (Or.inl rfl) q574 q94 q572 q573 hy_J13_copyOf np_J13_copyOf rfl dJ5_ensureCapacityInternal_32) (fun q h he hX => a_out (unc_of Z.2.1 rfl) Z.2.2.2.1 he hX) (fun x32 h hf => ?kk32)
    refine AW.eq (g2 := F0 m 35 ls [va_rf x32, va_rf (some a24)]) rfl ?_
    refine a_put (pc := 35) (φ := 3500) X Z.1.2.1 Z.1.2.2.1 (gw X.1 X.2.1 q293) (fun _ q => q) (by decide) rfl (fits_rf _ (Or.inr ⟨_, rfl⟩)) dJ5_ensureCapacityInternal_35 hf (fun h hf => ?_)
    exact a_return X Z.2.2.1 Z.2.2.2.1 dJ5_ensureCapacityInternal_38 hf
theorem np_J5_isLatin1 : npar yJ5_isLatin1.desc 0 := by unfold npar; decide +kernel
theorem hy_J5_isLatin1 : yJ5_isLatin1.cls ≠ "java/lang/invoke/MethodHandle" ∧ yJ5_isLatin1.cls ≠ "java/lang/invoke/VarHandle" := by decide +kernel
theorem w_J5_isLatin1 (GA : GA l s0 a0 K lam) (v0 : Option Nat) : AMet l s0 K lam yJ5_isLatin1 (Cond.code yJ5_isLatin1 cJ5_isLatin1 (1 : Nat) (Option.some ClassFile.FieldType.boolean)) 0 0 [vR v0] oI (f_J5_isLatin1 K v0) := by
  refine AMet.of GA.1 (plainFor_of_name (by decide +kernel)) (Nat.le_of_ble_eq_true rfl) ?_
  intro b r hf p e s m args below meth c X hr hlk hnm hnd ht ls hl
  have Z : WZ l s0 a0 K p s m c cJ5_isLatin1 yJ5_isLatin1.cls 1 b { frames := 0, cells := K 0 - aX b, slots := K 1 - aW b, locals := 0 } 0 0 meth [] (some (.boolean)) yJ5_isLatin1 := ⟨⟨X, GA.2.1, GA.2.2.1, rfl, rfl, Nat.le_refl _, Nat.le_refl _⟩, tab_nil ht, hr, hlk, hnm, hnd⟩
  unfold f_J5_isLatin1 at hf
  clear hr hlk hnm hnd ht
  refine a_getstatic (pc := 0) (v := .int (1 : Int32)) X (st_COMPACT_STRINGS GA) (gw X.1 X.2.1 q284) (fun _ q => q) dJ5_isLatin1_0 ?_
  refine AW.lift2 (fun _ _ _ _ k1 k2 => lv_if_eq (pc := 3) (tgt := 17) X.2.2.1 X.2.2.2.1 dJ5_isLatin1_3 rfl k1 k2) (fun c => ?_) (fun c => ?_)
  · have hf := ite_t c hf
    refine AW.lift (fun _ _ _ _ k => lv_iconst (pc := 17) (v := (0 : Int32)) X.2.2.1 X.2.2.2.1 dJ5_isLatin1_17 rfl k) ?_
    exact a_zreturn X Z.2.2.1 rfl Z.2.2.2.1 dJ5_isLatin1_18 hf
  · have hf := ite_f c hf
    refine a_aload_n (pc := 6) X dJ5_isLatin1_6 rfl hl 0 rfl ?_
    refine a_get (pc := 7) (φ := 3501) pI_t X Z.1.2.1 (gw X.1 X.2.1 q294) (fun _ q => q) (by decide) dJ5_isLatin1_7 hf (fun x7 hf => ?_)
    refine AW.lift2 (fun _ _ _ _ k1 k2 => lv_if_ne (pc := 10) (tgt := 17) X.2.2.1 X.2.2.2.1 dJ5_isLatin1_10 rfl k2 k1) (fun c => ?_) (fun c => ?_)
    · have hf := ite_t c hf
      refine AW.lift (fun _ _ _ _ k => lv_iconst (pc := 13) (v := (1 : Int32)) X.2.2.1 X.2.2.2.1 dJ5_isLatin1_13 rfl k) ?_
      refine AW.lift (fun _ _ _ _ k => lv_goto (pc := 14) (tgt := 18) X.2.2.1 X.2.2.2.1 dJ5_isLatin1_14 rfl k) ?_
      exact a_zreturn X Z.2.2.1 rfl Z.2.2.2.1 dJ5_isLatin1_18 hf
    · have hf := ite_f c hf
      refine AW.lift (fun _ _ _ _ k => lv_iconst (pc := 17) (v := (0 : Int32)) X.2.2.1 X.2.2.2.1 dJ5_isLatin1_17 rfl k) ?_
      exact a_zreturn X Z.2.2.1 rfl Z.2.2.2.1 dJ5_isLatin1_18 hf
theorem np_J13_rangeCheck : npar yJ13_rangeCheck.desc 3 := by unfold npar; decide +kernel
theorem hy_J13_rangeCheck : yJ13_rangeCheck.cls ≠ "java/lang/invoke/MethodHandle" ∧ yJ13_rangeCheck.cls ≠ "java/lang/invoke/VarHandle" := by decide +kernel
theorem w_J13_rangeCheck (GA : GA l s0 a0 K lam) (v0 : Int32) (v1 : Int32) (v2 : Int32) : AMet l s0 K lam yJ13_rangeCheck (Cond.code yJ13_rangeCheck cJ13_rangeCheck (3 : Nat) (Option.none : Option ClassFile.FieldType)) 3 61 [vI v0, vI v1, vI v2] oV (f_J13_rangeCheck K v0 v1 v2) := by
  refine AMet.of GA.1 (plainFor_of_name (by decide +kernel)) (Nat.le_of_ble_eq_true rfl) ?_
  intro b r hf p e s m args below meth c X hr hlk hnm hnd ht ls hl
  have Z : WZ l s0 a0 K p s m c cJ13_rangeCheck yJ13_rangeCheck.cls 3 b { frames := 3, cells := K 0 - aX b, slots := K 1 - aW b, locals := 61 } 3 61 meth [] none yJ13_rangeCheck := ⟨⟨X, GA.2.1, GA.2.2.1, rfl, rfl, Nat.le_refl _, Nat.le_refl _⟩, tab_nil ht, hr, hlk, hnm, hnd⟩
  unfold f_J13_rangeCheck at hf
  clear hr hlk hnm hnd ht
  refine a_iload_n (pc := 0) X dJ13_rangeCheck_0 rfl hl 1 rfl ?_
  refine a_iload_n (pc := 1) X dJ13_rangeCheck_1 rfl hl 2 rfl ?_
  refine AW.lift2 (fun _ _ _ _ k1 k2 => lv_icmp_le (pc := 2) (tgt := 46) X.2.2.1 X.2.2.2.1 dJ13_rangeCheck_2 rfl k1 k2) (fun c => ?_) (fun c => ?_)
  · have hf := ite_t c hf
    refine a_iload_n (pc := 46) X dJ13_rangeCheck_46 rfl hl 1 rfl ?_
    refine AW.lift2 (fun _ _ _ _ k1 k2 => lv_if_ge (pc := 47) (tgt := 59) X.2.2.1 X.2.2.2.1 dJ13_rangeCheck_47 rfl k1 k2) (fun c => ?_) (fun c => ?_)
    · have hf := ite_t c hf
      refine a_iload_n (pc := 59) X dJ13_rangeCheck_59 rfl hl 2 rfl ?_
      refine a_iload_n (pc := 60) X dJ13_rangeCheck_60 rfl hl 0 rfl ?_
      refine AW.lift2 (fun _ _ _ _ k1 k2 => lv_icmp_le (pc := 61) (tgt := 73) X.2.2.1 X.2.2.2.1 dJ13_rangeCheck_61 rfl k1 k2) (fun c => ?_) (fun c => ?_)
      · have hf := ite_t c hf
        exact a_return X Z.2.2.1 Z.2.2.2.1 dJ13_rangeCheck_73 hf
      · have hf := ite_f c hf
        refine a_new (pc := 64) (cK := 22) (n := 6) X Z.1.2.1 Z.1.2.2.1 Z.1.2.2.2.1 Z.1.2.2.2.2.1 ⟨by decide, by decide, by decide⟩ (gw X.1 X.2.1 q2523) (gw X.1 X.2.1 q1787) (gw X.1 X.2.1 q123) dJ13_rangeCheck_64 hf (fun x64 h hf => ?_)
        refine AW.lift (fun _ _ _ _ k => lv_dup (pc := 67) X.2.2.1 X.2.2.2.1 dJ13_rangeCheck_67 (cat_rf _) k) ?_
        refine a_iload_n (pc := 68) X dJ13_rangeCheck_68 rfl hl 2 rfl ?_
        exact fl_no hf
    · have hf := ite_f c hf
      refine a_new (pc := 50) (cK := 22) (n := 6) X Z.1.2.1 Z.1.2.2.1 Z.1.2.2.2.1 Z.1.2.2.2.2.1 ⟨by decide, by decide, by decide⟩ (gw X.1 X.2.1 q2523) (gw X.1 X.2.1 q1787) (gw X.1 X.2.1 q123) dJ13_rangeCheck_50 hf (fun x50 h hf => ?_)
      refine AW.lift (fun _ _ _ _ k => lv_dup (pc := 53) X.2.2.1 X.2.2.2.1 dJ13_rangeCheck_53 (cat_rf _) k) ?_
      refine a_iload_n (pc := 54) X dJ13_rangeCheck_54 rfl hl 1 rfl ?_
      exact fl_no hf
  · have hf := ite_f c hf
    refine a_new (pc := 5) (cK := 17) (n := 6) X Z.1.2.1 Z.1.2.2.1 Z.1.2.2.2.1 Z.1.2.2.2.2.1 ⟨by decide, by decide, by decide⟩ (gw X.1 X.2.1 q733) (gw X.1 X.2.1 q734) (gw X.1 X.2.1 q106) dJ13_rangeCheck_5 hf (fun x5 h hf => ?_)
    refine AW.lift (fun _ _ _ _ k => lv_dup (pc := 8) X.2.2.1 X.2.2.2.1 dJ13_rangeCheck_8 (cat_rf _) k) ?_
    refine a_new (pc := 9) (cK := 36) (n := 4) X Z.1.2.1 Z.1.2.2.1 Z.1.2.2.2.1 Z.1.2.2.2.2.1 ⟨by decide, by decide, by decide⟩ (gw X.1 X.2.1 q742) (gw X.1 X.2.1 q276) (gw X.1 X.2.1 q83) dJ13_rangeCheck_9 hf (fun x9 h hf => ?_)
    refine AW.lift (fun _ _ _ _ k => lv_dup (pc := 12) X.2.2.1 X.2.2.2.1 dJ13_rangeCheck_12 (cat_rf _) k) ?_
    refine a_callb (pc := 13) (rs := [vR (some x9), vR (some x5), vR (some x5)]) (avs := [vR (some x9)]) Z.1 (w_J6_init GA (some x9)) (Or.inl rfl) q279 q83 (by decide) (by decide) dJ13_rangeCheck_13 hl.1 (Nat.le_of_ble_eq_true rfl) hf (ct_I X q279 q743 q278 rfl hy_J6_init np_J6_init rfl dJ13_rangeCheck_13) (fun q h he hX => a_out (unc_of Z.2.1 rfl) Z.2.2.2.1 he hX) (fun _ h hf => ?kk13)
    refine AW.eq (g2 := F0 m 16 ls [va_rf (some x9), va_rf (some x5), va_rf (some x5)]) rfl ?_
    exact fl_no hf
theorem w_J13_fill_b10 {r : Except Nat (Unit) × AH} (GA : GA l s0 a0 K lam) (Z : WZ l s0 a0 K p s m c cJ13_fill yJ13_fill.cls 5 b R 4 83 meth [] none yJ13_fill) (v0 : Option Nat) (v2 : Int32) (v3 : Int32) (v4 : Int32)  (rc10 : Int32 → AM (Unit)) (hrc10 : ∀ (v4 : Int32) (h : AH) (ls : Array Slot), LV ls 5 [(0, vR v0), (2, vI v2), (3, vI v3), (4, vI v4)] → rc10 v4 h = some r → AW s0 K lam p l e R s m args below meth c (AQ s0 K lam below oV b r s) b h (F0 m 10 ls [])) {h : AH} {ls : Array Slot} (hl : LV ls 5 [(0, vR v0), (2, vI v2), (3, vI v3), (4, vI v4)]) (hf : f_J13_fill_b10 K rc10 v0 v2 v3 v4 h = some r) : AW s0 K lam p l e R s m args below meth c (AQ s0 K lam below oV b r s) b h (F0 m 10 ls []) := by
  unfold f_J13_fill_b10 at hf
  have X := Z.1.1
  refine a_iload (pc := 10) X dJ13_fill_10 hl 3 rfl ?_
  refine a_iload_n (pc := 12) X dJ13_fill_12 rfl hl 1 rfl ?_
  refine AW.lift2 (fun _ _ _ _ k1 k2 => lv_icmp_ge (pc := 13) (tgt := 27) X.2.2.1 X.2.2.2.1 dJ13_fill_13 rfl k1 k2) (fun c => ?_) (fun c => ?_)
  · have hf := ite_t c hf
    exact a_return X Z.2.2.1 Z.2.2.2.1 dJ13_fill_27 hf
  · have hf := ite_f c hf
    refine a_aload_n (pc := 16) X dJ13_fill_16 rfl hl 0 rfl ?_
    refine a_iload (pc := 17) X dJ13_fill_17 hl 3 rfl ?_
    refine a_iload_n (pc := 19) X dJ13_fill_19 rfl hl 2 rfl ?_
    obtain ⟨hg, hf⟩ := chk_some hf
    refine a_bastore (pc := 20) X hg dJ13_fill_20 hf (fun h hf => ?_)
    refine a_iinc (pc := 21) (v := (v4 + (1 : Int32))) X dJ13_fill_21 hl (k := 3) rfl rfl (by decide) (lv' := [(4, vI (v4 + (1 : Int32))), (0, vR v0), (2, vI v2), (3, vI v3)]) rfl (fun ls hl => ?_)
    refine AW.lift (fun _ _ _ _ k => lv_goto (pc := 24) (tgt := 10) X.2.2.1 X.2.2.2.1 dJ13_fill_24 rfl k) ?_
    exact hrc10 (v4 + (1 : Int32)) _ _ (hl.sub [1, 2, 3, 0] rfl) hf
theorem w_J13_fill_l10 {r : Except Nat (Unit) × AH} (GA : GA l s0 a0 K lam) (Z : WZ l s0 a0 K p s m c cJ13_fill yJ13_fill.cls 5 b R 4 83 meth [] none yJ13_fill) (v0 : Option Nat) (v2 : Int32) (v3 : Int32)  : ∀ (n : Nat) (v4 : Int32) (h : AH) (ls : Array Slot), LV ls 5 [(0, vR v0), (2, vI v2), (3, vI v3), (4, vI v4)] → f_J13_fill_l10 K v0 v2 v3 n v4 h = some r → AW s0 K lam p l e R s m args below meth c (AQ s0 K lam below oV b r s) b h (F0 m 10 ls []) := by
  intro n
  induction n with
  | zero => intro v4 h ls hl hf; exact fl_no (h := h) hf
  | succ n ih => intro v4 h ls hl hf; exact w_J13_fill_b10 GA Z v0 v2 v3 v4 (f_J13_fill_l10 K v0 v2 v3 n) ih hl hf
theorem np_J13_fill : npar yJ13_fill.desc 4 := by unfold npar; decide +kernel
theorem hy_J13_fill : yJ13_fill.cls ≠ "java/lang/invoke/MethodHandle" ∧ yJ13_fill.cls ≠ "java/lang/invoke/VarHandle" := by decide +kernel
theorem w_J13_fill (GA : GA l s0 a0 K lam) (v0 : Option Nat) (v1 : Int32) (v2 : Int32) (v3 : Int32) : AMet l s0 K lam yJ13_fill (Cond.code yJ13_fill cJ13_fill (5 : Nat) (Option.none : Option ClassFile.FieldType)) 4 83 [vR v0, vI v1, vI v2, vI v3] oV (f_J13_fill K v0 v1 v2 v3) := by
  refine AMet.of GA.1 (plainFor_of_name (by decide +kernel)) (Nat.le_of_ble_eq_true rfl) ?_
  intro b r hf p e s m args below meth c X hr hlk hnm hnd ht ls hl
  have Z : WZ l s0 a0 K p s m c cJ13_fill yJ13_fill.cls 5 b { frames := 4, cells := K 0 - aX b, slots := K 1 - aW b, locals := 83 } 4 83 meth [] none yJ13_fill := ⟨⟨X, GA.2.1, GA.2.2.1, rfl, rfl, Nat.le_refl _, Nat.le_refl _⟩, tab_nil ht, hr, hlk, hnm, hnd⟩
  unfold f_J13_fill at hf
  clear hr hlk hnm hnd ht
  refine a_aload_n (pc := 0) X dJ13_fill_0 rfl hl 0 rfl ?_
  refine a_arraylength (pc := 1) X dJ13_fill_1 hf (fun x1 hf => ?_)
  refine a_iload_n (pc := 2) X dJ13_fill_2 rfl hl 1 rfl ?_
  refine a_iload_n (pc := 3) X dJ13_fill_3 rfl hl 2 rfl ?_
  refine a_callb (pc := 4) (rs := []) (avs := [vI x1, vI v1, vI v2]) Z.1 (w_J13_rangeCheck GA x1 v1 v2) (Or.inl rfl) q2519 q94 (by decide) (by decide) dJ13_fill_4 hl.1 (Nat.le_of_ble_eq_true rfl) hf (ct_S X (Or.inl rfl) q2519 q94 q2517 q2518 hy_J13_rangeCheck np_J13_rangeCheck rfl dJ13_fill_4) (fun q h he hX => a_out (unc_of Z.2.1 rfl) Z.2.2.2.1 he hX) (fun _ h hf => ?kk4)
  refine AW.eq (g2 := F0 m 7 ls []) rfl ?_
  refine a_iload_n (pc := 7) X dJ13_fill_7 rfl hl 1 rfl ?_
  refine a_istore (pc := 8) X dJ13_fill_8 hl (by decide) (lv' := [(4, vI v1), (0, vR v0), (1, vI v1), (2, vI v2), (3, vI v3)]) rfl (fun ls hl => ?_)
  exact w_J13_fill_l10 GA Z v0 v2 v3  FU v1 _ _ (hl.sub [1, 3, 4, 0] rfl) hf
theorem np_J21_fillNull : npar yJ21_fillNull.desc 3 := by unfold npar; decide +kernel
theorem hy_J21_fillNull : yJ21_fillNull.cls ≠ "java/lang/invoke/MethodHandle" ∧ yJ21_fillNull.cls ≠ "java/lang/invoke/VarHandle" := by decide +kernel
theorem w_J21_fillNull (GA : GA l s0 a0 K lam) (v0 : Option Nat) (v1 : Int32) (v2 : Int32) : AMet l s0 K lam yJ21_fillNull (Cond.code yJ21_fillNull cJ21_fillNull (3 : Nat) (Option.none : Option ClassFile.FieldType)) 5 107 [vR v0, vI v1, vI v2] oV (f_J21_fillNull K v0 v1 v2) := by
  refine AMet.of GA.1 (plainFor_of_name (by decide +kernel)) (Nat.le_of_ble_eq_true rfl) ?_
  intro b r hf p e s m args below meth c X hr hlk hnm hnd ht ls hl
  have Z : WZ l s0 a0 K p s m c cJ21_fillNull yJ21_fillNull.cls 3 b { frames := 5, cells := K 0 - aX b, slots := K 1 - aW b, locals := 107 } 5 107 meth [] none yJ21_fillNull := ⟨⟨X, GA.2.1, GA.2.2.1, rfl, rfl, Nat.le_refl _, Nat.le_refl _⟩, tab_nil ht, hr, hlk, hnm, hnd⟩
  unfold f_J21_fillNull at hf
  clear hr hlk hnm hnd ht
  refine a_aload_n (pc := 0) X dJ21_fillNull_0 rfl hl 0 rfl ?_
  refine a_iload_n (pc := 1) X dJ21_fillNull_1 rfl hl 1 rfl ?_
  refine a_iload_n (pc := 2) X dJ21_fillNull_2 rfl hl 2 rfl ?_
  refine AW.lift (fun _ _ _ _ k => lv_iconst (pc := 3) (v := (0 : Int32)) X.2.2.1 X.2.2.2.1 dJ21_fillNull_3 rfl k) ?_
  refine a_callb (pc := 4) (rs := []) (avs := [vR v0, vI v1, vI v2, vI (0 : Int32)]) Z.1 (w_J13_fill GA v0 v1 v2 (0 : Int32)) (Or.inl rfl) q2516 q94 (by decide) (by decide) dJ21_fillNull_4 hl.1 (Nat.le_of_ble_eq_true rfl) hf (ct_S X (Or.inl rfl) q2516 q94 q2514 q2515 hy_J13_fill np_J13_fill rfl dJ21_fillNull_4) (fun q h he hX => a_out (unc_of Z.2.1 rfl) Z.2.2.2.1 he hX) (fun _ h hf => ?kk4)
  refine AW.eq (g2 := F0 m 7 ls []) rfl ?_
  exact a_return X Z.2.2.1 Z.2.2.2.1 dJ21_fillNull_7 hf
end WK
